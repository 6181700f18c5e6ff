/-- a task of a work, if there is one, has so many -/
def mnU (rc v : Int) (mn : Nat → Int) : Nat → Int := if rc < 0 then mn else fup mn rc.toNat v
section CPUB2
variable {S : Nat → Bool} {M M1 M2 : MM} {m al N p t nb n P : Nat} {pa tk : Nat → Nat} {own : Nat → Ky} {sd ps sn pu rf : Nat → Int} {tm how : Int} {lf : Nat → Nat} {b0 : Nat × Nat} {h : Gh} {eg : EG} {pb as : Nat → Option Nat} {mn sto : Nat → Int} {fa : Nat → Nat} {Y : Ys} {Lb : Nat → List Trm} {LA : Nat → List Nat} {dn : Nat → Int}
/-- what a task has found so far -/
theorem CB_mn {r : Nat} {v : Int} (hC : CB M m al N pa own sd ps sn pu rf tm lf b0 eg tk pb as nb mn fa Y h) (hr : r < nb) (hv : w32 v = v) : CB (sI M (tk r) 4 v) m al N pa own sd ps sn pu rf tm lf b0 eg tk pb as nb (fup mn r v) fa Y h ∧ FK (fun z => z == 11) M (sI M (tk r) 4 v) := by
  obtain ⟨hP, hL, hW, hT⟩ := hC
  have hu := hL.1
  have tc := hT.1 r hr
  have k26 : (kd M (tk r)).1 = 26 := by rw [tc.1]
  have x3 : ExA (fun z => z = tk r) M (sI M (tk r) 4 v) := (ExC_sI (A := fun z => z = tk r) rfl).exa
  have f3 : FK (fun z => z == 11) M (sI M (tk r) 4 v) := FK_exa x3 (fun z _ hz => by rw [hz, mo_cl1 k26 (by decide) (by decide)]; rfl)
  refine ⟨⟨cp_11 hP f3 (by decide) ⟨rfl, rfl⟩, LksC_fk f3 (by decide) hL, Wks_fk hL f3 (by decide) hW, ?_⟩, f3⟩
  refine Tks_w hu hr hT x3 (fun _ _ _ _ => rfl) (fun r' z => fup_ne z) ?_
  obtain ⟨t1, t2, t3, t4, t5, t6, t7, t8⟩ := tc
  have R : ∀ i, i ≠ 4 → rI (sI M (tk r) 4 v) (tk r) i = rI M (tk r) i := fun i z => by rw [rI_sI, if_neg (by omega)]
  refine ⟨t1, by rw [R 0 (by decide)]; exact t2, by rw [R 1 (by decide)]; exact t3, by rw [R 2 (by decide)]; exact t4, by rw [R 3 (by decide)]; exact t5, by rw [rI_eq rfl, fup_eq, hv], fun z => ?_, t8⟩
  obtain ⟨s1, s2, s3, s4⟩ := t7 z
  have nf : fa r ≠ tk r := fun e => by rw [e, t1] at s2; exact absurd (congrArg Prod.fst s2) (by show ¬ (26 : Nat) = 528; decide)
  exact ⟨s1, s2, fun i hi => by rw [rI_ne (fun e => nf e.1)]; exact s3 i hi, by rw [R 5 (by decide)]; exact s4⟩
theorem CB_task {v : Int} (hC : CB M m al N pa own sd ps sn pu rf tm lf b0 eg tk pb as nb mn fa Y h) (ht : t < 12 + N) (hgo : yv Y 226 t ≠ 0) (hrc : yv Y 229 t = -1 ∨ (0 ≤ yv Y 229 t ∧ yv Y 229 t < (nb : Int))) (hv : w32 v = v) : ∃ M1, (∀ (k : MM → Option (Int × MM)) , ((gfr 11 4 ((wa pa t : Nat) : Int) M).bind fun v1 => if v1 = -1 then k M else (gfr 11 4 ((wa pa t : Nat) : Int) M).bind fun v2 => (pfi 26 4 v2 v M).bind k) = k M1) ∧ CB M1 m al N pa own sd ps sn pu rf tm lf b0 eg tk pb as nb (mnU (yv Y 229 t) v mn) fa Y h ∧ FK (fun z => z == 11) M M1 := by
  obtain ⟨hP, hL, hW, hT⟩ := id hC
  obtain ⟨w1, _⟩ := hL.2.2.1 t ht
  obtain ⟨g1, g2, _⟩ := (hW t ht).2.2.2 hgo
  rw [gfr_e w1.1, g2]
  by_cases c : vI (ys Y) 229 t < 0
  · refine ⟨M, fun k => ?_, ?_, .refl⟩
    · rw [Option.bind_some, if_pos c, if_pos rfl]
    · unfold mnU; rw [if_pos c]; exact hC
  · obtain ⟨r, hr⟩ : ∃ r : Nat, yv Y 229 t = (r : Int) := ⟨(yv Y 229 t).toNat, by have c : ¬ yv Y 229 t < 0 := c; omega⟩
    have hr' : vI (ys Y) 229 t = (r : Int) := hr
    obtain ⟨c1, c2⟩ := CB_mn (r := r) hC (by omega) hv
    refine ⟨_, fun k => ?_, ?_, c2⟩
    · rw [Option.bind_some, if_neg c, hr', show ((r : Nat) : Int).toNat = r from rfl, if_neg (by omega), Option.bind_some, pfi_e (by rw [(hT.1 r (by omega)).1]), Option.bind_some]
    · unfold mnU
      rw [if_neg c, hr]; exact c1
theorem CB_task1 {v : Int} (hC : CB M m al N pa own sd ps sn pu rf tm lf b0 eg tk pb as nb mn fa Y h) (ht : t < 12 + N) (hgo : yv Y 226 t ≠ 0) (hrc : yv Y 229 t = -1 ∨ (0 ≤ yv Y 229 t ∧ yv Y 229 t < (nb : Int))) (hv : w32 v = v) : ∃ M1, (∀ (k : MM → Option MM) , ((gfr 11 4 ((wa pa t : Nat) : Int) M).bind fun v1 => if v1 = -1 then k M else (gfr 11 4 ((wa pa t : Nat) : Int) M).bind fun v2 => (pfi 26 4 v2 v M).bind k) = k M1) ∧ CB M1 m al N pa own sd ps sn pu rf tm lf b0 eg tk pb as nb (mnU (yv Y 229 t) v mn) fa Y h ∧ FK (fun z => z == 11) M M1 := by
  obtain ⟨hP, hL, hW, hT⟩ := id hC
  obtain ⟨w1, _⟩ := hL.2.2.1 t ht
  obtain ⟨g1, g2, _⟩ := (hW t ht).2.2.2 hgo
  rw [gfr_e w1.1, g2]
  by_cases c : vI (ys Y) 229 t < 0
  · refine ⟨M, fun k => ?_, ?_, .refl⟩
    · rw [Option.bind_some, if_pos c, if_pos rfl]
    · unfold mnU; rw [if_pos c]; exact hC
  · obtain ⟨r, hr⟩ : ∃ r : Nat, yv Y 229 t = (r : Int) := ⟨(yv Y 229 t).toNat, by have c : ¬ yv Y 229 t < 0 := c; omega⟩
    have hr' : vI (ys Y) 229 t = (r : Int) := hr
    obtain ⟨c1, c2⟩ := CB_mn (r := r) hC (by omega) hv
    refine ⟨_, fun k => ?_, ?_, c2⟩
    · rw [Option.bind_some, if_neg c, hr', show ((r : Nat) : Int).toNat = r from rfl, if_neg (by omega), Option.bind_some, pfi_e (by rw [(hT.1 r (by omega)).1]), Option.bind_some]
    · unfold mnU
      rw [if_neg c, hr]; exact c1
def rcOK (nb : Nat) (Y : Ys) (t : Nat) : Prop := yv Y 229 t = -1 ∨ (0 ≤ yv Y 229 t ∧ yv Y 229 t < (nb : Int))
theorem rc_ok (hrec : recY nb Y) (hh : hdW N Y t) : rcOK nb Y t := by
  by_cases c : t < 12
  · exact Or.inr (hrec.2 t c (by rw [hh.1]; decide)).1
  · exact Or.inl (hh.2.2.2 (by omega)).1
/-- a publishing goes to its next term -/
theorem c_goes30 (hC : CB M m al N pa own sd ps sn pu rf tm lf b0 eg tk pb as nb mn fa Y h) (h0 : PubsC M (12 + N) pb Lb LA sto (st2 (ys Y) 226 t 0)) (hLb : LibsC M N pa Lb LA dn) (ho : okW N own tm (yw Y)) (hrec : recY nb Y) (hh : hdW N Y t) (ht : t < 12 + N) (hlf : lf t + 1 < 2147483648) (hk : yv Y 227 t = 2) (hPt : pb t = some P) (hT : PbT M P (pbL (yv Y 243 t).toNat (Lb (yp Y t)) (LA (yp Y t)))) (h4 : -1 ≤ yv Y 244 t ∧ yv Y 244 t < 64) (e2 : rI M P 2 = yv Y 244 t + 1) (e3 : rI M P 3 = yv Y 243 t) (e4 : rI M P 4 = 0) (e5 : rI M P 5 = sto t) (e6 : rI M P 6 = yv Y 246 t) (h6 : yv Y 246 t = 0 ∨ yv Y 246 t = 1) (hd : dtW t (yw Y) = yw Y) :
    ∃ M' lf' eg' x, f_X30_goes ((P : Nat) : Int) ((wa pa t : Nat) : Int) M = some (x, M') ∧ (CB M' m al N pa own sd ps sn pu rf tm lf' b0 eg' tk pb as nb (mnU (yv Y 229 t) (sto t) mn) fa (nxtY m own Lb t Y) h ∧ PubsC M' (12 + N) pb Lb LA sto (ys (nxtY m own Lb t Y)) ∧ LibsC M' N pa Lb LA dn) ∧ FK FJ M M' ∧ LfS t 1 lf lf' ∧ x = b2i (decide (yv (nxtY m own Lb t Y) 226 t ≠ 0)) := by
  have hgo : yv Y 226 t ≠ 0 := by rw [hh.1]; decide
  have hrc := rc_ok hrec hh
  have pN := yp_lt hh
  obtain ⟨PS, _⟩ := h0.1 t ht P hPt
  have hu := hC.2.1.1
  obtain ⟨P1, P2⟩ := PbS_mo PS
  have Pl := PbS_lt hu PS
  have ws : w32 (sto t) = sto t := by rw [← e5]; exact w32_rI
  obtain ⟨M1, t1, t2, t3⟩ := CB_task (v := sto t) hC ht hgo hrc ws
  have k30 : (kd M P).1 = 30 := by rw [PS.1]
  unfold f_X30_goes
  rw [show ((gfr 11 4 ((wa pa t : Nat) : Int) M).bind fun v1 => if v1 = -1 then j_X30_goes_18 (P : Int) ((wa pa t : Nat) : Int) M else (gfr 11 4 ((wa pa t : Nat) : Int) M).bind fun v2 => (gfi 30 5 (P : Int) M).bind fun v3 => (pfi 26 4 v2 v3 M).bind fun M1 => j_X30_goes_18 (P : Int) ((wa pa t : Nat) : Int) M1) = j_X30_goes_18 (P : Int) ((wa pa t : Nat) : Int) M1 from by rw [gfi_e k30, e5]; exact t1 _]
  -- at M1
  have I1 : ∀ i, rI M1 P i = rI M P i := fun i => t3.rI (by omega) (by rw [P1]; rfl) i
  have R1 : ∀ i, rR M1 (P + 1) i = rR M (P + 1) i := fun i => t3.rR (by omega) (by rw [P2]; rfl) i
  have PS1 : PbS M1 P := PS.exa t3 hu (fun z => by rw [P1] at z; exact absurd z (by decide))
  have k301 : (kd M1 P).1 = 30 := by rw [PS1.1]
  have L1 := Libs_fk t3 hu (by decide) hLb
  have h01 := Pubs_fk t3 hu (by decide) h0
  obtain ⟨w1, _⟩ := t2.2.1.2.2.1 t ht
  have lib := L1 (yp Y t) pN
  obtain ⟨ll, le⟩ := pbL_len (lim := (yv Y 243 t).toNat) lib.2.2.2.2.2.1
  obtain ⟨k, hkk⟩ : ∃ k : Nat, yv Y 244 t + 1 = (k : Int) := ⟨(yv Y 244 t + 1).toNat, by omega⟩
  have ek : (yv Y 244 t + 1).toNat = k := by omega
  unfold j_X30_goes_18 nxtY
  rw [gfi_e k301, I1, e2, Option.bind_some, gfi_e k301, I1, hT.1, Option.bind_some, hkk, w32_nn (by omega), w32_nn (by have := hT.2.1; omega), show ((k : Nat) : Int).toNat = k from rfl]
  by_cases c : k < (pbT (yv Y 243 t).toNat (Lb (yp Y t))).length
  · rw [if_pos (by omega), if_pos c]
    obtain ⟨x, hx⟩ : ∃ x, x = ((pbL (yv Y 243 t).toNat (Lb (yp Y t)) (LA (yp Y t))).getD k (0, trm0)).1 := ⟨_, rfl⟩
    have tr : TrC M1 x ((pbT (yv Y 243 t).toNat (Lb (yp Y t))).getD k trm0) := by rw [hx]; exact pbL_tr lib c
    have kl := hT.2.1
    obtain ⟨Y1, hY1⟩ : ∃ Y1, Y1 = setV Y 244 t (k : Int) := ⟨_, rfl⟩
    have v : ∀ a i, ¬ (a = 244 ∧ i = t) → yv Y1 a i = yv Y a i := fun a i z => by rw [hY1]; exact vI_ne z
    have v4 : yv Y1 244 t = (k : Int) := by rw [hY1]; show vI (st2 (ys Y) 244 t (k : Int)) 244 t = _; rw [vI_eq rfl, w32s (by omega)]
    have vp : yp Y1 t = yp Y t := by unfold yp; rw [show vI (ys Y1) 228 t = vI (ys Y) 228 t from v 228 t (by omega)]
    have C1 : CB M1 m al N pa own sd ps sn pu rf tm lf b0 eg tk pb as nb (mnU (yv Y 229 t) (sto t) mn) fa Y1 h := by
      rw [hY1]; exact CB_sc t2 (fun a i z => vI_ne (by omega)) rfl
    have ew : yw Y1 = yw Y := by rw [hY1]; rfl
    have tY : trY Lb t Y1 = (pbT (yv Y 243 t).toNat (Lb (yp Y t))).getD k trm0 := by unfold trY; rw [v _ _ (by omega), vp, v4]; rfl
    obtain ⟨M2, eg', r1, r2, r3⟩ := c_lookW (sk := false) (kx := x + 2) C1 (by rw [ew]; exact ho) ht (by rw [v _ _ (by omega)]; exact hgo) (by rw [vp]; exact pN) tr.2.2.2.2.2.2.2.1 (by rw [tr.2.2.2.2.2.2.1]; decide) (by rw [ew]; exact hd)
    rw [tr.2.2.2.2.2.2.2.2.1] at r2
    have r1 : f_X11_look ((wa pa t : Nat) : Int) ((x + 2 : Nat) : Int) 0 M1 = some (1, M2) := r1
    rw [← hY1, tY]
    refine ⟨M2, lf, eg', 1, ?_, ⟨r2, ?_, Libs_fk r3 t2.2.1.1 (by decide) L1⟩, FK.trans (t3.mono (mo1 rfl)) (r3.mono (mo2 ⟨rfl, rfl⟩)), .refl, ?_⟩
    · rw [gfr_e k301, PS1.2.1, Option.bind_some, Option.bind_some, lar_n PS1.2.2 (by decide) (by omega) (by decide), Option.bind_some, R1, hT.2.2 k (by omega), ← hx, gfr_e tr.1, tr.2.2.2.2.2.1, Option.bind_some, ck_e w1.1, r1, Option.bind_some, bz_e (Or.inr rfl)]
    · have hu1 := t2.2.1.1
      obtain ⟨q1, q2⟩ := PbS_mo PS1
      have Pl1 := PbS_lt hu1 PS1
      have PS2 : PbS M2 P := PS1.exa r3 hu1 (fun z => by rw [q1] at z; exact absurd z (by decide))
      refine Pubs_w (sc := st2 (ys Y) 226 t 0) (sto := sto) (M := M2) (M1 := M2) r2.2.1.1 ht hPt (Pubs_fk r3 hu1 (by decide) h01) .refl (fun t' z a y => ?_) (fun _ _ => rfl) PS2 (fun _ _ => ?_)
      · rw [hY1]
        show vI (st2 (st2 (ys Y) 244 t (k : Int)) 230 t 1) a t' = vI (st2 (ys Y) 226 t 0) a t'
        rw [vI_ne (by omega), vI_ne (by omega), vI_ne (by omega)]
      · have I2 : ∀ i, rI M2 P i = rI M P i := fun i => (r3.rI (by omega) (by rw [q1]; rfl) i).trans (I1 i)
        have R2 : ∀ i, rR M2 (P + 1) i = rR M (P + 1) i := fun i => (r3.rR (by omega) (by rw [q2]; rfl) i).trans (R1 i)
        have lv : ∀ a, a ≠ 230 → a ≠ 244 → vI (ys (lkY m own t ((pbT (yv Y 243 t).toNat (Lb (yp Y t))).getD k trm0).2.1 false Y1)) a t = yv Y a t := fun a z1 z2 => (lk_v z1).trans (v a t (by omega))
        have l4 : vI (ys (lkY m own t ((pbT (yv Y 243 t).toNat (Lb (yp Y t))).getD k trm0).2.1 false Y1)) 244 t = (k : Int) := (lk_v (by decide)).trans v4
        have l0 : vI (ys (lkY m own t ((pbT (yv Y 243 t).toNat (Lb (yp Y t))).getD k trm0).2.1 false Y1)) 230 t = 1 := lk_1
        unfold PbF PbT
        rw [lv 243 (by decide) (by decide), lv 228 (by decide) (by decide), l4, l0, lv 246 (by decide) (by decide), if_neg (by decide), I2, I2, I2, I2, I2, I2, e2, e3, e4, e5, e6, hkk]
        exact ⟨⟨hT.1, hT.2.1, fun i hi => by rw [R2]; exact hT.2.2 i hi⟩, rfl, rfl, rfl, rfl, rfl⟩
    · rw [lk_v (by decide), v _ _ (by omega), hh.1]; rfl
  · rw [if_neg (by omega), if_neg c, gfi_e k301, I1, e6, Option.bind_some, show w32 (yv Y 246 t) = yv Y 246 t from w32_vI]
    obtain ⟨Y1, hY1⟩ : ∃ Y1, Y1 = setV Y 244 t (-1) := ⟨_, rfl⟩
    have v : ∀ a i, ¬ (a = 244 ∧ i = t) → yv Y1 a i = yv Y a i := fun a i z => by rw [hY1]; exact vI_ne z
    have C1 : CB M1 m al N pa own sd ps sn pu rf tm lf b0 eg tk pb as nb (mnU (yv Y 229 t) (sto t) mn) fa Y1 h := by
      rw [hY1]; exact CB_sc t2 (fun a i z => vI_ne (by omega)) rfl
    have fin : ∀ hw : Int, (hw = 1 ∨ hw = 2) → ∃ M' lf' eg' x, j_X30_goes_60 ((wa pa t : Nat) : Int) hw M1 = some (x, M') ∧ (CB M' m al N pa own sd ps sn pu rf tm lf' b0 eg' tk pb as nb (mnU (yv Y 229 t) (sto t) mn) fa (clY t hw Y1) h ∧ PubsC M' (12 + N) pb Lb LA sto (ys (clY t hw Y1)) ∧ LibsC M' N pa Lb LA dn) ∧ FK FJ M M' ∧ LfS t 1 lf lf' ∧ x = b2i (decide (yv (clY t hw Y1) 226 t ≠ 0)) := fun hw z => by
      obtain ⟨M', d1, d2, d3⟩ := c_end (how := hw) C1 ht (by rw [v _ _ (by omega)]; exact hgo) (by rw [v _ _ (by omega)]; exact hrc) (by
        by_cases c : t < 12
        · have := (hrec.2 t c hgo).2.1
          right; right; left
          rw [v _ _ (by omega), v _ _ (by omega), this, hk]; decide
        · right; left
          rw [v _ _ (by omega)]
          have := (hh.2.2.2 (by omega)).1; omega) (by rcases z with z | z <;> rw [z] <;> rfl) hlf
      refine ⟨M', _, eg, 0, ?_, ⟨d2, ?_, Libs_fk d3 t2.2.1.1 (by decide) L1⟩, FK.trans (t3.mono (mo1 rfl)) (d3.mono (mo2 ⟨rfl, rfl⟩)), LfS_1, ?_⟩
      · unfold j_X30_goes_60
        rw [ck_e w1.1, d1, Option.bind_some]
      · have z0 : vI (ys (clY t hw Y1)) 226 t = 0 := clS_0
        have zc : ∀ a t', t' ≠ t → a ≠ 267 → vI (ys (clY t hw Y1)) a t' = vI (st2 (ys Y) 226 t 0) a t' := fun a t' z1 z2 => by
          rw [show vI (ys (clY t hw Y1)) a t' = vI (ys Y1) a t' from clS_ne (by omega) z2, vI_ne (by omega), hY1]
          exact vI_ne (by omega)
        exact Pubs_sc (Pubs_fk d3 t2.2.1.1 (by decide) h01) (fun t' _ z1 z2 => by
          by_cases e : t' = t
          · rw [e, z0] at z1; exact absurd rfl z1
          · rw [zc _ _ e (by decide)] at z1 z2
            exact ⟨⟨z1, z2⟩, fun a y => zc a t' e (by omega)⟩)
      · rw [show yv (clY t hw Y1) 226 t = 0 from clS_0]; rfl
    rw [← hY1]
    by_cases c6 : yv Y 246 t = 0
    · rw [if_pos c6, if_pos c6]; exact fin 1 (Or.inl rfl)
    · rw [if_neg c6, if_neg c6]; exact fin 2 (Or.inr rfl)
end CPUB2
