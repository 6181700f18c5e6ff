/-! background works, both sides -/
/-- works that have no object for publishings yet -/
def ptN (pb : Nat → Option Nat) (T : Nat) : Nat := sumN (fun t => if pb t = none then 1 else 0) T
/-- documents of the peers in the reference -/
def DnV (V : VV) (N : Nat) (dn : Nat → Int) : Prop := ∀ p, p < N → ∃ lim : Nat, lim ≤ 16 ∧ dn p = (lim : Int) ∧ vI V 173 p = (lim : Int)
/-- what both sides have behind the background's part -/
def JV (r : Option MM) (r2 : Option VV) (q : Nat) (M : MM) (V : VV) (m al N : Nat) (pa : Nat → Nat) (own : Nat → Ky) (sd ps sn pu rf : Nat → Int) (tm : Int) (tk : Nat → Nat) (pb as : Nat → Option Nat) (nb : Nat) (Lb : Nat → List Trm) (LA : Nat → List Nat) (dn : Nat → Int) (KL : List Ky) (k K : Nat) (nS : Nat → Nat) (B : Nat × Nat) (Y : Ys) : Prop :=
  ∃ M' V' Y' pu' rf' pb' nS' B', r = some M' ∧ r2 = some V' ∧ JD M' V' m al N pa own sd ps sn pu' rf' tm tk pb' as nb Lb LA dn KL k K nS' B' Y' ∧ FK FE M M' ∧ Kp1 V V' ∧ YT Y Y' ∧ (∀ t, (t ≠ q → nS' t = nS t) ∧ nS' t ≤ nS t + 1) ∧ (B'.1 + 2 * ptN pb' (12 + N) = B.1 + 2 * ptN pb (12 + N) ∧ B'.2 + 71 * ptN pb' (12 + N) = B.2 + 71 * ptN pb (12 + N)) ∧ EQ (q - 12) (yw Y) (yw Y') ∧ ∀ q, (pu' q = pu q ∨ pu' q = tm) ∧ (rf' q = rf q ∨ rf' q = tm)
def bgC (x0 x1 : Int) (M2 : MM) : Option MM :=
  (gfr 17 19 x1 M2).bind fun v4 =>
  (gfi 11 6 v4 M2).bind fun v5 =>
  if w32 v5 = 0 then
    (gfr 1 1 x0 M2).bind fun v6 =>
    ck 7 v6 M2 <| (f_X7_setting v6 6 M2).bind fun v7 =>
    (gfr 1 1 x0 M2).bind fun v8 =>
    ck 7 v8 M2 <| (f_X7_setting v8 8 M2).bind fun v9 =>
    if 0 < w32 v7 then
      (gfr 17 7 x1 M2).bind fun v10 =>
      (gfi 19 1 v10 M2).bind fun v11 =>
      if 0 < w32 v11 then
        (gfr 1 1 x0 M2).bind fun v12 =>
        (gfi 7 3 v12 M2).bind fun v13 =>
        (gfi 17 17 x1 M2).bind fun v14 =>
        if w32 (v13 - v14) < w32 v7 then
          j_X1_works_98 x0 x1 v9 M2
        else
          (gfr 17 19 x1 M2).bind fun v15 =>
          (gfr 17 19 x1 M2).bind fun v16 =>
          ck 11 v16 M2 <| (f_X11_publishing v16 M2).bind fun r1 =>
          ck 11 v15 r1.2 <| (f_X11_start v15 x1 r1.1 (-1) r1.2).bind fun M3 =>
          j_X1_works_149 M3
      else
        j_X1_works_98 x0 x1 v9 M2
    else
      j_X1_works_98 x0 x1 v9 M2
  else
    some M2
section JBACKG
variable {S : Nat → Bool} {M M1 : MM} {V V1 W sc : VV} {m al N p t t' nb nb' oth Z L k K kx n P lim : Nat} {pa tk : Nat → Nat} {own : Nat → Ky} {sd ps sn pu rf : Nat → Int} {tm x kind r : Int} {lf lf0 lf' : Nat → Nat} {b b0 b0' B : Nat × Nat} {h h' : Gh} {eg : EG} {pb as : Nat → Option Nat} {mn sto : Nat → Int} {fa : Nat → Nat} {Y Yo Y1 Y' : Ys} {Lb : Nat → List Trm} {LA : Nat → List Nat} {dn : Nat → Int} {ev tn tn0 tn' nS : Nat → Nat} {KL : List Ky}
theorem FE_11 (z : Nat) (h : F11 z = true) : FE z = true := by unfold FE; rw [FD_11 z h]; rfl
/-- the object for publishings -/
theorem j_pub (hJ : JX M V m al N pa own sd ps sn pu rf tm tk pb as nb Lb LA dn KL k h lf b0 eg mn sto fa Z ev oth tn Y) (hCT : CTR N own nb K nS B lf b0 Z ev oth tn Y) (hN : 12 + N ≤ 44) (ht : t < 12 + N) (h0 : yv Y 226 t = 0) :
    ∃ (M' : MM) (pb' : Nat → Option Nat) (b0' B' : Nat × Nat) (P : Nat), f_X11_publishing ((wa pa t : Nat) : Int) M = some ((P : Int), M') ∧ pb' t = some P ∧ JX M' V m al N pa own sd ps sn pu rf tm tk pb' as nb Lb LA dn KL k h lf b0' eg mn sto fa Z ev oth tn Y ∧ CTR N own nb K nS B' lf b0' Z ev oth tn Y ∧ FK (fun z => z == 12) M M' ∧ (B'.1 + 2 * ptN pb' (12 + N) = B.1 + 2 * ptN pb (12 + N) ∧ B'.2 + 71 * ptN pb' (12 + N) = B.2 + 71 * ptN pb (12 + N)) := by
  cases c : pb t with
  | some P =>
    refine ⟨M, pb, b0, B, P, ?_, c, hJ, hCT, .refl, rfl, rfl⟩
    have k1 := (hJ.1.1.1.2.2.1 t ht).1
    rw [c] at k1
    have k11 := (hJ.1.1.1.2.1.2.2.1 t ht).1.1
    unfold f_X11_publishing j_X11_publishing_18
    rw [gfr_e k11, Option.bind_some, k1, if_neg (by show ¬ ((P : Nat) : Int) = -1; omega), Option.bind_some]
    rfl
  | none =>
    obtain ⟨M', a1, a2, a3⟩ := c_pubNew hJ.1 (wE_h3 hN hJ.2.2.1) ht h0 c
    refine ⟨M', _, _, (B.1 + 2, B.2 + 71), nN M, a1, fup_eq, ⟨a2, hJ.2⟩, ?_, a3, ?_⟩
    · obtain ⟨h1, h2, h3, c', c1, c2, c3⟩ := hCT
      exact ⟨h1, h2, h3, c', c1, by show b0.1 + 2 ≤ B.1 + 2 + c'; omega, by show b0.2 + 71 ≤ B.2 + 71 + 180 * c'; omega⟩
    · have s := sumN_up (f := fun z => if fup pb t (some (nN M)) z = none then 1 else 0) (g := fun z => if pb z = none then 1 else 0) t (fun i hi => by rw [fup_ne hi]) (12 + N)
      rw [if_pos ht, if_pos ht, fup_eq, if_pos c, if_neg (fun e => by cases e)] at s
      unfold ptN
      omega
theorem JV_id (q : Nat) (hJ : JD M V m al N pa own sd ps sn pu rf tm tk pb as nb Lb LA dn KL k K nS B Y) : JV (some M) (some V) q M V m al N pa own sd ps sn pu rf tm tk pb as nb Lb LA dn KL k K nS B Y := ⟨M, V, Y, pu, rf, pb, nS, B, rfl, rfl, hJ, .refl, .refl, .refl, fun t => ⟨fun _ => rfl, Nat.le_succ _⟩, ⟨rfl, rfl⟩, .refl, fun _ => ⟨Or.inl rfl, Or.inl rfl⟩⟩
theorem fup_or {f : Nat → Int} {v : Int} (q : Nat) : fup f p v q = f q ∨ fup f p v q = v := by
  by_cases c : q = p
  · rw [c, fup_eq]; exact Or.inr rfl
  · rw [fup_ne c]; exact Or.inl rfl
theorem nS_f (t : Nat) : ∀ z, (z ≠ t → fup nS t (nS t + 1) z = nS z) ∧ fup nS t (nS t + 1) z ≤ nS z + 1 := fun z => by
  by_cases c : z = t
  · rw [c, fup_eq]; exact ⟨fun e => absurd rfl e, Nat.le_refl _⟩
  · rw [fup_ne c]; exact ⟨fun _ => rfl, Nat.le_succ _⟩
theorem max_if {a b : Int} : (if a < b then b else a) = max b a := by split <;> omega
/-- refreshing in the background -/
theorem j_bg8 (hJ : JD M V m al N pa own sd ps sn pu rf tm tk pb as nb Lb LA dn KL k K nS B Y) (hX : X0 M) (hN : 12 + N ≤ 44) (hal : al ≤ 8) (hK : K ≤ 130000000) (hnS : nS (12 + p) ≤ 70000) (hp : p < N) (h0 : yv Y 226 (12 + p) = 0) (hs : sn p ≤ tm) : JV (j_X1_works_98 ((0 : Nat) : Int) ((pa p : Nat) : Int) (wst (yw Y) 8) M) (j_X16_background_88 (p : Int) (12 + (p : Int)) V) (12 + p) M V m al N pa own sd ps sn pu rf tm tk pb as nb Lb LA dn KL k K nS B Y := by
  have hJD := hJ
  obtain ⟨h, lf, b0, eg, mn, sto, fa, Z, ev, oth, tn, hJ, hCT⟩ := hJ
  have hC := hJ.1.1.1.1
  obtain ⟨L, hP, hL⟩ := hJ.2.1.1
  have pv := hP.2.1.2.2.1 p (by omega)
  have pe := hC.2.2.2.2.1.2.2 p hp
  have k17 : (kd M (pa p)).1 = 17 := by rw [pe.1.1]
  have k7 : (kd M 19).1 = 7 := by rw [hC.2.1.1.1]
  have w8 : w32 (wst (yw Y) 8) = wst (yw Y) 8 := by rw [← hP.1.1 8 (by decide)]; exact w32_vI
  have v8 : l2 162 11 8 V = some (wst (yw Y) 8) := by rw [← hP.1.1 8 (by decide)]; exact l2_n (j := 8) (by decide) (by decide)
  have tmV : w32 (V 156 11) = tm := hP.1.2.1
  have refE : j_X16_background_88 (p : Int) (12 + (p : Int)) V = if 0 < wst (yw Y) 8 then (if w32 (tm - max (rf p) (sn p)) < wst (yw Y) 8 then some V else (s2 170 32 (p : Int) tm V).bind fun V1 => (f_X16_open ((12 + p : Nat) : Int) 4 (p : Int) V1).bind fun V2 => (f_X16_beginRefresh ((12 + p : Nat) : Int) V2).bind fun V3 => f_X16_proceed ((12 + p : Nat) : Int) V3) else some V := by
    have e118 : ∀ y, j_X16_background_118 (p : Int) (12 + (p : Int)) y V = if 0 < wst (yw Y) 8 then (if w32 (tm - y) < wst (yw Y) 8 then some V else (s2 170 32 (p : Int) tm V).bind fun V1 => (f_X16_open ((12 + p : Nat) : Int) 4 (p : Int) V1).bind fun V2 => (f_X16_beginRefresh ((12 + p : Nat) : Int) V2).bind fun V3 => f_X16_proceed ((12 + p : Nat) : Int) V3) else some V := fun y => by
      unfold j_X16_background_118
      rw [v8, Option.bind_some, Option.bind_some, w8, tmV]
      have fin : ∀ (o : Option VV), (o.bind fun V4 => j_X16_background_172 V4) = o := fun o => by cases o <;> rfl
      simp only [fin]
      rfl
    unfold j_X16_background_88
    rw [l2_n (by omega) (by decide), Option.bind_some, l2_n (by omega) (by decide), Option.bind_some, w32_vI, w32_vI, Option.bind_some, Option.bind_some, pv.2.2.2.1, pv.2.2.2.2.2, e118, e118]
    by_cases c : sn p < rf p
    · rw [if_pos c, show max (rf p) (sn p) = rf p by omega]
    · rw [if_neg c, show max (rf p) (sn p) = sn p by omega]
  have wt : wa pa (12 + p) = pa p + 17 := by unfold wa; rw [if_neg (by omega), show 12 + p - 12 = p by omega]
  have W := (hJ.1.1.1.2.1.2.2.1 (12 + p) (by omega)).1
  have clsE : j_X1_works_98 ((0 : Nat) : Int) ((pa p : Nat) : Int) (wst (yw Y) 8) M = if 0 < wst (yw Y) 8 then (if w32 (tm - max (rf p) (sn p)) < wst (yw Y) 8 then some M else ((f_X13_from ((wa pa (12 + p) + 3 : Nat) : Int) 0 (sI M (pa p) 18 tm)).bind fun r1 => f_X11_start ((wa pa (12 + p) : Nat) : Int) ((pa p : Nat) : Int) r1.1 (-1) r1.2)) else some M := by
    unfold j_X1_works_98
    rw [w8, gfr_e hX.1, Option.bind_some, hX.2.2, gfi_e k7, Option.bind_some, hC.2.1.2.2.1, gfi_e k17, Option.bind_some, pe.2.2.2.2.2.2.2.2, Option.bind_some, gfi_e k7, Option.bind_some, hC.2.1.2.2.1, pfi_e k17, Option.bind_some, gfr_e (by exact k17), Option.bind_some, Option.bind_some, show rR (sI M (pa p) 18 tm) (pa p) 19 = ((pa p + 17 : Nat) : Int) from pe.1.2.2.1.2.2.2.2.2.2, ← wt, gfr_e (by exact W.1), Option.bind_some, show rR (sI M (pa p) 18 tm) (wa pa (12 + p)) 8 = ((wa pa (12 + p) + 3 : Nat) : Int) from W.2.1.2.2.2.1, ck_e (by show (kd M _).1 = 13; rw [W.2.2.2.2.1])]
    have kf : f_X13_from ((wa pa (12 + p) + 3 : Nat) : Int) 0 (sI M (pa p) 18 tm) = some (((wa pa (12 + p) + 3 : Nat) : Int), sI (sI M (pa p) 18 tm) (wa pa (12 + p) + 3) 0 0) := by
      unfold f_X13_from
      rw [pfz_e (by show (kd M _).1 = 13; rw [W.2.2.2.2.1]) (Or.inl rfl)]
      rfl
    rw [kf, Option.bind_some, Option.bind_some]
    rw [show ck 11 ((wa pa (12 + p) : Nat) : Int) (((wa pa (12 + p) + 3 : Nat) : Int), sI (sI M (pa p) 18 tm) (wa pa (12 + p) + 3) 0 0).2 ((f_X11_start ((wa pa (12 + p) : Nat) : Int) ((pa p : Nat) : Int) (((wa pa (12 + p) + 3 : Nat) : Int), sI (sI M (pa p) 18 tm) (wa pa (12 + p) + 3) 0 0).1 (-1) (((wa pa (12 + p) + 3 : Nat) : Int), sI (sI M (pa p) 18 tm) (wa pa (12 + p) + 3) 0 0).2).bind fun M2 => j_X1_works_149 M2) = f_X11_start ((wa pa (12 + p) : Nat) : Int) ((pa p : Nat) : Int) (((wa pa (12 + p) + 3 : Nat) : Int), sI (sI M (pa p) 18 tm) (wa pa (12 + p) + 3) 0 0).1 (-1) (((wa pa (12 + p) + 3 : Nat) : Int), sI (sI M (pa p) 18 tm) (wa pa (12 + p) + 3) 0 0).2 by
      rw [ck_e (by exact W.1)]
      generalize f_X11_start ((wa pa (12 + p) : Nat) : Int) ((pa p : Nat) : Int) _ (-1) _ = o
      cases o <;> rfl]
    rfl
  rw [refE, clsE]
  by_cases c1 : 0 < wst (yw Y) 8
  · rw [if_pos c1, if_pos c1]
    by_cases c2 : w32 (tm - max (rf p) (sn p)) < wst (yw Y) 8
    · rw [if_pos c2, if_pos c2]; exact JV_id _ hJD
    · rw [if_neg c2, if_neg c2]
      obtain ⟨M', V', Y', a1, a2, a3, a4, a5, a6, a7⟩ := j_back4 hJ hCT hN hal hK hnS hp h0 hs
      exact ⟨M', V', Y', pu, _, pb, _, B, a1, a2, a3, a4.mono FE_11, a5, a6, nS_f (12 + p), ⟨rfl, rfl⟩, by rw [show 12 + p - 12 = p by omega]; exact a7, fun q => ⟨Or.inl rfl, fup_or q⟩⟩
  · rw [if_neg c1, if_neg c1]; exact JV_id _ hJD
end JBACKG
