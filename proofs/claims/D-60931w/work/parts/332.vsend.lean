theorem v_lost {V : VV} {st : Nat → Int} {tm lo : Int} {fl : List Dg} {L : Nat} (h : VNet V st tm lo fl L) : ∃ V', ((p2 12 ((w32 (V 156 12)) + 1) V).bind fun V1 => some V1) = some V' ∧ VNet V' st tm (w32 (lo + 1)) fl L ∧ FrV m1 V V' := by
  obtain ⟨h1, h2, h3, h4, h5, h6, o, o1, o2, o3, o4⟩ := h
  have c : w32 (V 156 12) = lo := h3
  have ne : ∀ a i, ¬ (a = 156 ∧ i = 12) → vI (st2 V 156 12 (lo + 1)) a i = vI V a i := fun a i q => by rw [vI_st2, if_neg q]
  refine ⟨st2 V 156 12 (lo + 1), by rw [c, p2_e]; rfl, ⟨fun i hi => by rw [ne _ _ (by omega)]; exact h1 i hi, by rw [ne _ _ (by omega)]; exact h2, by rw [vI_st2, if_pos ⟨rfl, rfl⟩], by rw [ne _ _ (by omega)]; exact h4, by rw [ne _ _ (by omega)]; exact h5, h6, o, o1, o2, fun i hi => ?_, fun i j hij hj => by rw [ne _ _ (by omega), ne _ _ (by omega)]; exact o4 i j hij hj⟩, FrV_st (by rfl)⟩
  obtain ⟨⟨s1, s2, s3, s4, s5, s6⟩, t1⟩ := o3 i hi
  exact ⟨⟨by rw [ne _ _ (by omega)]; exact s1, by rw [ne _ _ (by omega)]; exact s2, by rw [ne _ _ (by omega)]; exact s3, by rw [ne _ _ (by omega)]; exact s4, s5, fun k hk => by rw [ne _ _ (by omega)]; exact s6 k hk⟩, by rw [ne _ _ (by omega)]; exact t1⟩
theorem v_setting {V : VV} {st : Nat → Int} {tm lo : Int} {fl : List Dg} {L : Nat} (h : VNet V st tm lo fl L) {i : Nat} (hi : i < 11) : l2 162 11 (i : Int) V = some (st i) := by
  rw [l2_e (w32_j (by omega)) hi, h.1 i hi]
theorem st_w {st : Nat → Int} (h : stOK st) : w32 (st 0) = st 0 ∧ w32 (st 1) = st 1 ∧ w32 (st 2) = st 2 ∧ w32 (st 3) = st 3 := by
  obtain ⟨h0, h1, h2, h3, _⟩ := h
  exact ⟨w32_id (by omega) (by omega), w32_id (by omega) (by omega), w32_id (by omega) (by omega), w32_id (by omega) (by omega)⟩
theorem rm2 {st : Nat → Int} (h : stOK st) : rmi (drw (st 10)) (st 2 + 1) = some (drw (st 10) % (st 2 + 1)) := by
  obtain ⟨h0, h1, h2, _⟩ := h
  have hd := drw_lo (st 10)
  have e1 : 0 ≤ drw (st 10) % (st 2 + 1) := Int.emod_nonneg _ (by omega)
  rw [rmi_e (p := (drw (st 10)).toNat) (q := (st 2 + 1).toNat) (by rw [w32_id (by omega) (by omega)]; omega) (by rw [w32_id (by omega) (by omega)]; omega) (by omega)]
  congr 1
  have a1 : ((drw (st 10)).toNat : Int) = drw (st 10) := by omega
  have a2 : ((st 2 + 1).toNat : Int) = st 2 + 1 := by omega
  rw [Int.natCast_emod, a1, a2]
theorem dS_ne {st : Nat → Int} {i : Nat} (h : i ≠ 10) : dS st i = st i := by
  unfold dS fup
  rw [if_neg h]
theorem arr_d {st : Nat → Int} {tm : Int} : tm + st 1 + drw (st 10) % (st 2 + 1) = arr st tm := rfl
set_option maxHeartbeats 1000000 in
theorem v_send {V : VV} {st : Nat → Int} {tm lo a b : Int} {f : Nat} {t : Int} {fl : List Dg} {L : Nat} {l : List Int} (h : VNet V st tm lo fl L) (hst : stOK st) (htm : 0 ≤ tm ∧ tm ≤ 1000000) (hf : f < 32) (ht : w32 t = t) (hL : L + 2 < 2000000000) (ho : OutV V l)
    (ha : f_X16_sideOf (f : Int) (st2 V 172 (5 * f + 3) (vI V 172 (5 * f + 3) + 1)) = some a) (hb : f_X16_sideOf t (st2 V 172 (5 * f + 3) (vI V 172 (5 * f + 3) + 1)) = some b) :
    ∃ V' L', f_X16_send (f : Int) t V = some V' ∧ VNet V' (sndS st tm lo fl (decide (w32 a ≠ w32 b)) f t l).1 tm (sndS st tm lo fl (decide (w32 a ≠ w32 b)) f t l).2.1 (sndS st tm lo fl (decide (w32 a ≠ w32 b)) f t l).2.2 L' ∧ L ≤ L' ∧ L' ≤ L + 2 ∧ FrV m1 (st2 V 172 (5 * f + 3) (vI V 172 (5 * f + 3) + 1)) V' := by
  have hi : w32 (5 * (f : Int) + 3) = ((5 * f + 3 : Nat) : Int) := by rw [w32_id (by omega) (by omega)]; omega
  have fr : FrV (fun m => m == 5) V (st2 V 172 (5 * f + 3) (vI V 172 (5 * f + 3) + 1)) := FrV_st (by rfl)
  unfold f_X16_send
  rw [l2_e hi (by omega), Option.bind_some, s2_e hi (by omega), Option.bind_some]
  have hu := VNet_fr fr rfl h
  have hou := OutV_fr fr rfl ho
  clear h ho fr
  generalize hU : st2 V 172 (5 * f + 3) (vI V 172 (5 * f + 3) + 1) = U at *
  have hwf : w32 (f : Int) = (f : Int) := w32_j (by omega)
  have w400 : w32 400 = 400 := by decide
  rw [ha, Option.bind_some, hb, Option.bind_some]
  have hlen := hu.2.2.2.2.2.1
  have s32 : w32 (U 156 32) = (fl.length : Int) := hu.2.2.2.1
  have s11 : w32 (U 156 11) = tm := hu.2.1
  by_cases c0 : w32 a = w32 b
  · rw [if_pos c0, s32, w400, w32_j (by omega), show decide (w32 a ≠ w32 b) = false from decide_eq_false (fun q => q c0)]
    by_cases c1 : fl.length = 400
    · obtain ⟨V', g1, g2, g3⟩ := v_lost hu
      rw [if_pos (by omega), show sndS st tm lo fl false f t l = (st, w32 (lo + 1), fl) from if_pos (Or.inr c1)]
      exact ⟨V', L, g1, g2, Nat.le_refl _, by omega, g3⟩
    · rw [if_neg (by omega)]
      obtain ⟨V1, d1, d2, d3⟩ := v_draw hu
      have st1 := dS_ok hst
      have q0 : l2 162 11 0 V1 = some (st 0) := by
        have := v_setting d2 (i := 0) (by decide)
        rw [dS_ne (by decide)] at this; exact this
      have q1 : l2 162 11 1 V1 = some (dS st 1) := v_setting d2 (i := 1) (by decide)
      rw [d1, Option.bind_some]
      dsimp only
      rw [rm1000.1, Option.bind_some, q0, Option.bind_some]
      rw [rm1000.2, (st_w hst).1]
      by_cases c2 : drw (st 10) % 1000 < st 0
      · obtain ⟨V', g1, g2, g3⟩ := v_lost d2
        rw [if_pos c2, show sndS st tm lo fl false f t l = (dS st, w32 (lo + 1), fl) from by unfold sndS; rw [if_neg (by simp [c1]), if_pos c2]]
        exact ⟨V', L, g1, g2, Nat.le_refl _, by omega, d3.trans g3⟩
      · rw [if_neg c2, q1, Option.bind_some]
        have t1 : w32 (V1 156 11) = tm := d2.2.1
        obtain ⟨V2, e1, e2, e3⟩ := v_draw d2
        have q2 : l2 162 11 2 V2 = some (dS st 2) := by
          have := v_setting e2 (i := 2) (by decide)
          rw [dS_ne (st := dS st) (by decide)] at this; exact this
        rw [e1, Option.bind_some]
        dsimp only
        rw [q2, Option.bind_some]
        rw [rm2 st1, Option.bind_some]
        rw [t1, arr_d]
        have ar := arr_w st1 htm
        obtain ⟨V3, z1, z2, z3⟩ := v_launch (f := (f : Int)) (t := t) (due := arr (dS st) tm) (l := l) e2 (by omega) (by omega) (OutV_fr (d3.trans e3) rfl hou) ⟨hwf, ht, ar.1⟩
        rw [z1, Option.bind_some]
        obtain ⟨V4, m1', m2, m3⟩ := v_draw z2
        have F4 := ((d3.trans e3).trans z3).trans m3
        have q3 : l2 162 11 3 V4 = some (st 3) := by
          have := v_setting m2 (i := 3) (by decide)
          rw [dS_ne (st := dS (dS st)) (by decide), dS_ne (st := dS st) (by decide), dS_ne (st := st) (by decide)] at this; exact this
        have q4 : l2 162 11 1 V4 = some (dS (dS (dS st)) 1) := v_setting m2 (i := 1) (by decide)
        rw [m1', Option.bind_some]
        dsimp only
        rw [rm1000.1, Option.bind_some, q3, Option.bind_some]
        have st3 := dS_ok (dS_ok st1)
        have hs32 : w32 (V4 156 32) = ((fl.length + 1 : Nat) : Int) := by rw [← insF_len fl ((f : Int), t, arr (dS st) tm, l)]; exact m2.2.2.2.1
        rw [rm1000.2, (st_w hst).2.2.2, hs32, w32_j (by omega)]
        by_cases c3 : drw (dS (dS st) 10) % 1000 < st 3
        · rw [if_pos c3]
          by_cases c4 : fl.length + 1 = 400
          · obtain ⟨V', g1, g2, g3⟩ := v_lost m2
            rw [if_pos (by omega), show sndS st tm lo fl false f t l = (dS (dS (dS st)), w32 (lo + 1), insF fl (f, t, arr (dS st) tm, l)) from by unfold sndS; rw [if_neg (by simp [c1]), if_neg c2, if_pos c3, if_pos c4]]
            exact ⟨V', L + 1, g1, g2, by omega, by omega, F4.trans g3⟩
          · rw [if_neg (by omega), q4, Option.bind_some]
            have t4 : w32 (V4 156 11) = tm := m2.2.1
            obtain ⟨V5, n1, n2, n3⟩ := v_draw m2
            have q5 : l2 162 11 2 V5 = some (dS (dS (dS st)) 2) := by
              have := v_setting n2 (i := 2) (by decide)
              rw [dS_ne (st := dS (dS (dS st))) (by decide)] at this; exact this
            rw [n1, Option.bind_some]
            dsimp only
            rw [q5, Option.bind_some]
            rw [rm2 st3, Option.bind_some]
            rw [t4, arr_d]
            have ar3 := arr_w st3 htm
            obtain ⟨V6, k1, k2, k3⟩ := v_launch (f := (f : Int)) (t := t) (due := arr (dS (dS (dS st))) tm) (l := l) n2 (by rw [insF_len]; omega) (by omega) (OutV_fr (F4.trans n3) rfl hou) ⟨hwf, ht, ar3.1⟩
            rw [k1, show sndS st tm lo fl false f t l = (dS (dS (dS (dS st))), lo, insF (insF fl (f, t, arr (dS st) tm, l)) (f, t, arr (dS (dS (dS st))) tm, l)) from by unfold sndS; rw [if_neg (by simp [c1]), if_neg c2, if_pos c3, if_neg c4]]
            exact ⟨V6, L + 1 + 1, rfl, k2, by omega, by omega, (F4.trans n3).trans k3⟩
        · rw [if_neg c3, show sndS st tm lo fl false f t l = (dS (dS (dS st)), lo, insF fl (f, t, arr (dS st) tm, l)) from by unfold sndS; rw [if_neg (by simp [c1]), if_neg c2, if_neg c3]]
          exact ⟨V4, L + 1, rfl, m2, by omega, by omega, F4⟩
  · rw [if_neg c0, show decide (w32 a ≠ w32 b) = true from decide_eq_true c0]
    obtain ⟨V', g1, g2, g3⟩ := v_lost hu
    rw [show sndS st tm lo fl true f t l = (st, w32 (lo + 1), fl) from if_pos (Or.inl rfl)]
    exact ⟨V', L, g1, g2, Nat.le_refl _, by omega, g3⟩
