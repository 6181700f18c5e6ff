/-! what peers do in a tick, both sides -/
section JWORKS
variable {S : Nat → Bool} {M M1 : MM} {V V1 W sc : VV} {m al N p t t' nb nb' oth Z L k K kx n P lim : Nat} {pa tk : Nat → Nat} {own : Nat → Ky} {sd ps sn pu rf : Nat → Int} {tm x kind r : Int} {lf lf0 lf' : Nat → Nat} {b b0 b0' B : Nat × Nat} {h h' : Gh} {eg : EG} {pb as : Nat → Option Nat} {mn sto : Nat → Int} {fa : Nat → Nat} {Y Yo Y1 Y' : Ys} {Lb : Nat → List Trm} {LA : Nat → List Nat} {dn : Nat → Int} {ev tn tn0 tn' nS : Nat → Nat} {KL : List Ky}
theorem FE_8 : FE 8 = false := rfl
theorem DnV_k (h : DnV V N dn) (f : Kp1 V W) : DnV W N dn := fun p hp => by
  obtain ⟨lim, a, b, c⟩ := h p hp
  refine ⟨lim, a, b, ?_⟩
  rw [← c]
  show w32 _ = w32 _
  rw [f 173 p (by unfold kp1; omega)]
theorem j_works (hJ : JD M V m al N pa own sd ps sn pu rf tm tk pb as nb Lb LA dn KL k K nS B Y) (hX : X0 M) (hN : 12 + N ≤ 44) (hal : al ≤ 8) (hK : K + 40 ≤ 130000000) (hnS : ∀ t, t < 44 → nS t ≤ 70000) (hp : p < N) (hs : sn p ≤ tm) (hD : DnV V N dn) : JV (f_X1_works ((0 : Nat) : Int) ((pa p : Nat) : Int) M) ((f_X16_runOut (p : Int) V).bind fun V1 => (f_X16_expire (p : Int) V1).bind fun V2 => f_X16_background (p : Int) V2) (12 + p) M V m al N pa own sd ps sn pu rf tm tk pb as nb Lb LA dn KL k (K + 40) nS B Y := by
  have k17 : (kd M (pa p)).1 = 17 := by
    obtain ⟨h, lf, b0, eg, mn, sto, fa, Z, ev, oth, tn, hJ, hCT⟩ := hJ
    rw [(hJ.1.1.1.1.2.2.2.2.1.2.2 p hp).1.1]
  obtain ⟨M1, V1, Y1, a1, a2, a3, a4, a5, a6, aE⟩ := j_runOut hJ hN hal hK hnS hp
  have hX1 : X0 M1 := X0_fk a4 (JD_un hJ) rfl hX
  obtain ⟨M2, V2, Y2, b1, b2, b3, b4, b5, b6, bE⟩ := j_expire (p := p) a3 hN hp
  have hX2 : X0 M2 := X0_fk b4 (JD_un a3) rfl hX1
  obtain ⟨M3, V3, Y3, pu3, rf3, pb3, nS3, B3, c1, c2, c3, c4, c5, c6, c7, c8, cE, cT⟩ := j_bg b3 hX2 hN hal (by omega) (hnS (12 + p) (by omega)) hp hs (DnV_k (DnV_k hD a5) b5)
  refine ⟨M3, V3, Y3, pu3, rf3, pb3, nS3, B3, ?_, ?_, c3, (a4.trans b4).trans c4, (a5.trans b5).trans c5, ((YT_r a6).trans (YT_r b6)).trans c6, c7, c8, by rw [show 12 + p - 12 = p by omega] at cE ⊢; exact (aE.trans bE).trans cE, cT⟩
  · obtain ⟨h, lf, b0, eg, mn, sto, fa, Z, ev, oth, tn, hJ1, _⟩ := a3
    have hC := hJ1.1.1.1.1
    have pe := (hC.2.2.2.2.1.2.2 p hp).1
    unfold f_X1_works
    rw [ck_e k17, a1, Option.bind_some, gfr_e (by rw [pe.1]), Option.bind_some, pe.2.2.1.2.2.2.1, gfr_e hX1.1, Option.bind_some, hX1.2.2, gfi_e (by rw [hC.2.1.1.1]), Option.bind_some, hC.2.1.2.2.1, ck_e (hC.2.2.2.1.2.2.2.1 p hp).1.1, b1, Option.bind_some]
    exact c1
  · rw [a2, Option.bind_some, b2, Option.bind_some]; exact c2
/-- the peers' turns -/
theorem j_ploop (hN : 12 + N ≤ 44) (hal : al ≤ 8) (hs : ∀ p, p < N → sn p ≤ tm) : ∀ (d j K fu : Nat) (M : MM) (V : VV) (Y : Ys) (pu rf : Nat → Int) (pb : Nat → Option Nat) (nS : Nat → Nat) (B : Nat × Nat), d + j = N → d < fu → JD M V m al N pa own sd ps sn pu rf tm tk pb as nb Lb LA dn KL k K nS B Y → X0 M → DnV V N dn → K + 40 * d ≤ 130000000 → (∀ t, t < 44 → nS t ≤ 70000 ∧ (12 + j ≤ t → nS t + 1 ≤ 70000)) → ∀ c : Int,
    ∃ (M' : MM) (V' : VV) (Y' : Ys) (pu' rf' : Nat → Int) (pb' : Nat → Option Nat) (nS' : Nat → Nat) (B' : Nat × Nat), lpN (fun s : Int × MM => b_X1_tick_81 ((0 : Nat) : Int) c s.1 s.2) fu ((j : Int), M) = some (c, M') ∧ lpN (fun s : Int × VV => b_X16_tick_77 s.1 s.2) fu ((j : Int), V) = some V' ∧ JD M' V' m al N pa own sd ps sn pu' rf' tm tk pb' as nb Lb LA dn KL k (K + 40 * d) nS' B' Y' ∧ FK FE M M' ∧ Kp1 V V' ∧ YT Y Y' ∧ (∀ t, (t < 12 + j → nS' t = nS t) ∧ nS' t ≤ nS t + 1) ∧ (B'.1 + 2 * ptN pb' (12 + N) = B.1 + 2 * ptN pb (12 + N) ∧ B'.2 + 71 * ptN pb' (12 + N) = B.2 + 71 * ptN pb (12 + N)) ∧ (DE ps (yw Y) → DE ps (yw Y')) ∧ ∀ q, (pu' q = pu q ∨ pu' q = tm) ∧ (rf' q = rf q ∨ rf' q = tm) := by
  intro d
  induction d with
  | zero =>
    intro j K fu M V Y pu rf pb nS B hd hf hJ hX hD hK hnS c
    have : j = N := by omega
    subst this
    have hJD := hJ
    obtain ⟨h, lf, b0, eg, mn, sto, fa, Z, ev, oth, tn, hJ, hCT⟩ := hJ
    have hC := hJ.1.1.1.1
    obtain ⟨L, hP, hL⟩ := hJ.2.1.1
    refine ⟨M, V, Y, pu, rf, pb, nS, B, lpN_end (b := fun s : Int × MM => b_X1_tick_81 ((0 : Nat) : Int) c s.1 s.2) (by omega) ?_, lpN_end (b := fun s : Int × VV => b_X16_tick_77 s.1 s.2) (by omega) ?_, hJD, .refl, .refl, .refl, fun t => ⟨fun _ => rfl, Nat.le_succ _⟩, ⟨rfl, rfl⟩, fun z => z, fun _ => ⟨Or.inl rfl, Or.inl rfl⟩⟩
    · dsimp only
      unfold b_X1_tick_81
      rw [gfr_e hX.1, Option.bind_some, hX.2.1, gfi_e (by rw [hC.1.1.1]), Option.bind_some, hC.1.2.2.1, if_neg (by omega)]
    · dsimp only
      unfold b_X16_tick_77
      rw [show w32 (V 156 13) = (j : Int) from hP.2.1.1, if_neg (by omega)]
  | succ d ih =>
    intro j K fu M V Y pu rf pb nS B hd hf hJ hX hD hK hnS c
    obtain ⟨f, rfl⟩ : ∃ f, fu = f + 1 := ⟨fu - 1, by omega⟩
    have hJD := hJ
    obtain ⟨h, lf, b0, eg, mn, sto, fa, Z, ev, oth, tn, hJ, hCT⟩ := hJ
    have hC := hJ.1.1.1.1
    obtain ⟨L, hP, hL⟩ := hJ.2.1.1
    have jN : j < N := by omega
    have wj : w32 (j : Int) = (j : Int) := w32_nn (by omega)
    have lv := c_isLive hX hC.1 hC.2.2.2.2.1 wj
    have lvj : lvB N ps (j : Int) = decide (ps j = 1) := by
      unfold lvB
      rw [decide_eq_true (show (0 : Int) ≤ (j : Int) by omega), decide_eq_true (show (j : Int) < (N : Int) by omega), Int.toNat_natCast]; rfl
    rw [lvj] at lv
    have clsE : b_X1_tick_81 ((0 : Nat) : Int) c (j : Int) M = if ps j = 1 then (f_X1_works ((0 : Nat) : Int) ((pa j : Nat) : Int) M).bind fun M1 => cnt (((j + 1 : Nat) : Int), M1) else cnt (((j + 1 : Nat) : Int), M) := by
      unfold b_X1_tick_81
      rw [gfr_e hX.1, Option.bind_some, hX.2.1, gfi_e (by rw [hC.1.1.1]), Option.bind_some, hC.1.2.2.1, wj, w32_nn (by omega), if_pos (by omega), ck_e hX.1, lv, Option.bind_some, w32_b2i, Option.bind_some, gfr_e (by rw [hC.1.1.1]), Option.bind_some, hC.1.1.2.2.1.2.2.2.1, lar_e (k := 247) (l := 32) (j := j) hC.1.1.2.2.2.1 (by decide) (by decide) wj (by omega), Option.bind_some, hC.1.2.2.2.2.1 j jN, ck_e hX.1]
      by_cases q : ps j = 1
      · rw [decide_eq_true q, if_neg (by decide), if_pos q]; rfl
      · rw [decide_eq_false q, if_pos (by decide), if_neg q]; rfl
    have refE : b_X16_tick_77 (j : Int) V = if ps j = 1 then ((f_X16_runOut (j : Int) V).bind fun V1 => (f_X16_expire (j : Int) V1).bind fun V2 => f_X16_background (j : Int) V2).bind fun V3 => cnt (((j + 1 : Nat) : Int), V3) else cnt (((j + 1 : Nat) : Int), V) := by
      unfold b_X16_tick_77
      rw [show w32 (V 156 13) = (N : Int) from hP.2.1.1, wj, w32_nn (by omega), if_pos (by omega), l2_n (by omega) (by decide), Option.bind_some, w32_vI, (hP.2.1.2.2.1 j (by omega)).2.2.1, show w32 1 = 1 from by decide]
      by_cases q : ps j = 1
      · rw [if_pos q, if_pos q]
        cases f_X16_runOut (j : Int) V with
        | none => rfl
        | some V1 =>
          rw [Option.bind_some, Option.bind_some]
          cases f_X16_expire (j : Int) V1 with
          | none => rfl
          | some V2 =>
            rw [Option.bind_some, Option.bind_some]
            rfl
      · rw [if_neg q, if_neg q]; rfl
    by_cases q : ps j = 1
    · rw [if_pos q] at clsE refE
      obtain ⟨M1, V1, Y1, pu1, rf1, pb1, nS1, B1, a1, a2, a3, a4, a5, a6, a7, a8, aE, aT⟩ := j_works hJD hX hN hal (by omega) (fun t ht => (hnS t ht).1) jN (hs j jN) hD
      rw [a1, Option.bind_some] at clsE
      rw [a2, Option.bind_some] at refE
      obtain ⟨M2, V2, Y2, pu2, rf2, pb2, nS2, B2, b1, b2, b3, b4, b5, b6, b7, b8, bD, bT⟩ := ih (j + 1) (K + 40) f M1 V1 Y1 pu1 rf1 pb1 nS1 B1 (by omega) (by omega) a3 (X0_fk a4 (JD_un hJD) rfl hX) (DnV_k hD a5) (by omega) (fun t ht => by
        have e := a7 t
        have g := hnS t ht
        by_cases c : t = 12 + j
        · have := g.2 (by omega); omega
        · have := e.1 c
          exact ⟨by omega, fun z => by have := g.2 (by omega); omega⟩) c
      refine ⟨M2, V2, Y2, pu2, rf2, pb2, nS2, B2, (lpN_cnt (b := fun s : Int × MM => b_X1_tick_81 ((0 : Nat) : Int) c s.1 s.2) (s := ((j : Int), M)) clsE).trans b1, (lpN_cnt (b := fun s : Int × VV => b_X16_tick_77 s.1 s.2) (s := ((j : Int), V)) refE).trans b2, JD_K b3 (by omega), a4.trans b4, a5.trans b5, a6.trans b6, fun t => ?_, ⟨by omega, by omega⟩, fun z => bD (DE_eq (p := j) (by rw [show 12 + j - 12 = j by omega] at aE; exact aE) q z), fun z => by
        have u := aT z
        have v := bT z
        exact ⟨by omega, by omega⟩⟩
      have e := a7 t
      have g := b7 t
      by_cases c : t = 12 + j
      · have := g.1 (by omega); exact ⟨fun z => by omega, by omega⟩
      · have := e.1 c
        exact ⟨fun z => by rw [g.1 (by omega)]; exact this, by omega⟩
    · rw [if_neg q] at clsE refE
      obtain ⟨M2, V2, Y2, pu2, rf2, pb2, nS2, B2, b1, b2, b3, b4, b5, b6, b7, b8⟩ := ih (j + 1) K f M V Y pu rf pb nS B (by omega) (by omega) hJD hX hD (by omega) (fun t ht => ⟨(hnS t ht).1, fun z => (hnS t ht).2 (by omega)⟩) c
      exact ⟨M2, V2, Y2, pu2, rf2, pb2, nS2, B2, (lpN_cnt (b := fun s : Int × MM => b_X1_tick_81 ((0 : Nat) : Int) c s.1 s.2) (s := ((j : Int), M)) clsE).trans b1, (lpN_cnt (b := fun s : Int × VV => b_X16_tick_77 s.1 s.2) (s := ((j : Int), V)) refE).trans b2, JD_K b3 (by omega), b4, b5, b6, fun t => ⟨fun z => (b7 t).1 (by omega), (b7 t).2⟩, b8⟩
end JWORKS
