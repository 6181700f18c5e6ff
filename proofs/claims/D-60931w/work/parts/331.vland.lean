set_option maxHeartbeats 1000000 in
/-- the loop of land: the last slot's bytes come down -/
theorem land_lp {U : VV} {f n len : Nat} (hf : f ≤ n) (hn : n < 400) (hlen : len ≤ 460) (hu : vI U 156 32 = (n : Int)) (hl : vI U 186 f = (len : Int)) : ∃ V', l_X16_land_87 (f : Int) 0 U = some V' ∧ (∀ i, i < len → vI V' 187 (460 * f + i) = vI U 187 (460 * n + i)) ∧ (∀ j, ¬ (460 * f ≤ j ∧ j < 460 * f + len) → vI V' 187 j = vI U 187 j) ∧ ExV (fun a => a = 187) U V' := by
  have hwf : w32 (f : Int) = (f : Int) := w32_id (by omega) (by omega)
  obtain ⟨⟨z, W⟩, n2, hn2, hI2, q2⟩ := lp_inv (b := fun s : Int × VV => b_X16_land_87 (f : Int) s.1 s.2) (fun k s => s.1 = (k : Int) ∧ (∀ i, i < k → vI s.2 187 (460 * f + i) = vI U 187 (460 * n + i)) ∧ (∀ j, ¬ (460 * f ≤ j ∧ j < 460 * f + k) → vI s.2 187 j = vI U 187 j) ∧ ExV (fun a => a = 187) U s.2) len
    (fun k s hk hs => by
      obtain ⟨z, W⟩ := s
      obtain ⟨rfl, g1, g2, g3⟩ := hs
      simp only at g1 g2 g3
      have hwk := w32_j (j := k) (by omega)
      have i1 : w32 (460 * (n : Int) + (k : Int)) = ((460 * n + k : Nat) : Int) := by rw [w32_id (by omega) (by omega)]; omega
      have i2 : w32 (460 * (f : Int) + (k : Int)) = ((460 * f + k : Nat) : Int) := by rw [w32_id (by omega) (by omega)]; omega
      have c1 : vI W 186 f = (len : Int) := (g3.vI (by decide) f).trans hl
      have c2 : w32 (W 156 32) = (n : Int) := (g3.vI (by decide) 32).trans hu
      have c3 : vI W 187 (460 * n + k) = vI U 187 (460 * n + k) := g2 _ (by omega)
      refine ⟨(((k + 1 : Nat) : Int), st2 W 187 (460 * f + k) (vI U 187 (460 * n + k))), ?_, rfl, ?_, ?_, g3.trans (ExV.st rfl)⟩
      · show b_X16_land_87 _ _ _ = _
        unfold b_X16_land_87
        rw [l2_e hwf (by omega), Option.bind_some, w32_vI, c1, hwk, if_pos (by omega), c2, l2_e i1 (by omega), Option.bind_some, c3, s2_e i2 (by omega), Option.bind_some]
        rfl
      · intro i hi
        show vI (st2 W 187 _ _) 187 _ = _
        rw [vI_st2]
        by_cases q : i = k
        · rw [if_pos ⟨rfl, by omega⟩, q, w32_vI]
        · rw [if_neg (by omega)]; exact g1 i (by omega)
      · intro j hj
        show vI (st2 W 187 _ _) 187 _ = _
        rw [vI_st2, if_neg (by omega)]; exact g2 j (by omega)) FU 0 (0, U) (by omega) (by unfold FU; omega) ⟨rfl, fun i hi => by omega, fun j _ => rfl, ExV.refl⟩
  obtain ⟨rfl, g1, g2, g3⟩ := hI2
  simp only at g1 g2 g3
  refine ⟨W, ?_, g1, g2, g3⟩
  unfold l_X16_land_87
  refine Eq.trans q2 ?_
  refine lpN_end hn2 ?_
  show b_X16_land_87 _ (len : Int) W = _
  unfold b_X16_land_87
  have c1 : vI W 186 f = (len : Int) := (g3.vI (by decide) f).trans hl
  rw [l2_e hwf (by omega), Option.bind_some, w32_vI, c1, if_neg (by rw [w32_id (z := (len : Int)) (by omega) (by omega)]; omega)]
theorem cpS {U : VV} {a f n : Nat} {β : Type} (hu : vI U 156 32 = (n : Int)) (hf : f < 400) (hn : n < 400) (k : VV → Option β) : ((l2 a 400 (w32 (U 156 32)) U).bind fun v => (s2 a 400 (f : Int) v U).bind k) = k (st2 U a f (vI U a n)) := by
  have hwf : w32 (f : Int) = (f : Int) := w32_id (by omega) (by omega)
  have hwn : w32 (n : Int) = (n : Int) := w32_id (by omega) (by omega)
  have e : w32 (U 156 32) = (n : Int) := hu
  rw [e, l2_e hwn hn, Option.bind_some, s2_e hwf hf, Option.bind_some]
theorem cpN {U : VV} {a f n : Nat} {v : Int} (hu : vI U 156 32 = (n : Int)) (ha : a ≠ 156) : vI (st2 U a f v) 156 32 = (n : Int) := by rw [vI_st2, if_neg (fun q => ha q.1.symm)]; exact hu
theorem land_hd {V : VV} {f n : Nat} (hf : f ≤ n) (hn : n < 400) (hv : vI V 156 32 = ((n + 1 : Nat) : Int)) : ∃ U, f_X16_land (f : Int) V = l_X16_land_87 (f : Int) 0 U ∧ vI U 156 32 = (n : Int) ∧ (∀ a i, 182 ≤ a → a ≤ 186 → vI U a i = if i = f then vI V a n else vI V a i) ∧ (∀ a i, a < 182 ∨ 186 < a → ¬ (a = 156 ∧ i = 32) → vI U a i = vI V a i) ∧ FrV m1 V U := by
  have c32 : w32 (V 156 32) = ((n + 1 : Nat) : Int) := hv
  have k1 : vI (st2 V 156 32 (n : Int)) 156 32 = (n : Int) := by rw [vI_st2, if_pos ⟨rfl, rfl⟩, w32_id (by omega) (by omega)]
  generalize hV1 : st2 V 156 32 (n : Int) = V1 at k1
  have n1 : ∀ a i, ¬ (a = 156 ∧ i = 32) → vI V1 a i = vI V a i := fun a i q => by rw [← hV1, vI_st2, if_neg q]
  have r1 : FrV m1 V V1 := by rw [← hV1]; exact FrV_st (by rfl)
  refine ⟨st2 (st2 (st2 (st2 (st2 V1 182 f (vI V 182 n)) 183 f (vI V 183 n)) 184 f (vI V 184 n)) 185 f (vI V 185 n)) 186 f (vI V 186 n), ?_, ?_, ?_, ?_, ?_⟩
  · unfold f_X16_land
    rw [c32, p2_e, Option.bind_some, show ((n + 1 : Nat) : Int) - 1 = (n : Int) by omega, hV1, cpS k1 (by omega) hn, cpS (cpN k1 (by decide)) (by omega) hn, cpS (cpN (cpN k1 (by decide)) (by decide)) (by omega) hn, cpS (cpN (cpN (cpN k1 (by decide)) (by decide)) (by decide)) (by omega) hn, cpS (cpN (cpN (cpN (cpN k1 (by decide)) (by decide)) (by decide)) (by decide)) (by omega) hn]
    have d1 : ∀ a i, a ≠ 156 → vI V1 a i = vI V a i := fun a i q => n1 a i (fun z => q z.1)
    have d2 : ∀ (U : VV) a b j v i, a ≠ b → vI (st2 U b j v) a i = vI U a i := fun U a b j v i q => by rw [vI_st2, if_neg (fun z => q z.1)]
    simp only [d1 182 n (by decide), d2 _ 183 182 _ _ _ (by decide), d1 183 n (by decide), d2 _ 184 183 _ _ _ (by decide), d2 _ 184 182 _ _ _ (by decide), d1 184 n (by decide), d2 _ 185 184 _ _ _ (by decide), d2 _ 185 183 _ _ _ (by decide), d2 _ 185 182 _ _ _ (by decide), d1 185 n (by decide), d2 _ 186 185 _ _ _ (by decide), d2 _ 186 184 _ _ _ (by decide), d2 _ 186 183 _ _ _ (by decide), d2 _ 186 182 _ _ _ (by decide), d1 186 n (by decide)]
  · exact cpN (cpN (cpN (cpN (cpN k1 (by decide)) (by decide)) (by decide)) (by decide)) (by decide)
  · intro a i h1 h2
    have : a = 182 ∨ a = 183 ∨ a = 184 ∨ a = 185 ∨ a = 186 := by omega
    by_cases q : i = f
    · rw [if_pos q, q]
      rcases this with rfl | rfl | rfl | rfl | rfl <;> simp [vI_st2, w32_vI]
    · rw [if_neg q]
      rcases this with rfl | rfl | rfl | rfl | rfl <;> simp [vI_st2, q, n1]
  · intro a i h1 h2
    rw [vI_st2, if_neg (by omega), vI_st2, if_neg (by omega), vI_st2, if_neg (by omega), vI_st2, if_neg (by omega), vI_st2, if_neg (by omega), n1 _ _ h2]
  · exact ((((r1.trans (FrV_st (by rfl))).trans (FrV_st (by rfl))).trans (FrV_st (by rfl))).trans (FrV_st (by rfl))).trans (FrV_st (by rfl))
theorem land_mem {V : VV} {f n len : Nat} (hf : f ≤ n) (hn : n < 400) (hlen : len ≤ 460) (hv : vI V 156 32 = ((n + 1 : Nat) : Int)) (hl : vI V 186 n = (len : Int)) : ∃ V', f_X16_land (f : Int) V = some V' ∧ vI V' 156 32 = (n : Int) ∧ (∀ a i, 182 ≤ a → a ≤ 186 → vI V' a i = if i = f then vI V a n else vI V a i) ∧ (∀ i, i < len → vI V' 187 (460 * f + i) = vI V 187 (460 * n + i)) ∧ (∀ j, ¬ (460 * f ≤ j ∧ j < 460 * f + len) → vI V' 187 j = vI V 187 j) ∧ (∀ a i, a < 182 ∨ 187 < a → ¬ (a = 156 ∧ i = 32) → vI V' a i = vI V a i) ∧ FrV m1 V V' := by
  obtain ⟨U, u1, u2, u3, u4, u5⟩ := land_hd hf hn hv
  obtain ⟨V', w1, w2, w3, w4⟩ := land_lp (U := U) hf hn hlen u2 (by rw [u3 186 f (by omega) (by omega), if_pos rfl]; exact hl)
  refine ⟨V', u1.trans w1, (w4.vI (by decide) 32).trans u2, fun a i h1 h2 => (w4.vI (by omega) i).trans (u3 a i h1 h2), fun i hi => by rw [w2 i hi, u4 _ _ (by omega) (by omega)], fun j hj => by rw [w3 j hj, u4 _ _ (by omega) (by omega)], fun a i h1 h2 => (w4.vI (by omega) i).trans (u4 a i (by omega) h2), u5.trans (FrV_ex w4 (fun a i h => by rw [h]; rfl))⟩
/-- the first one leaves -/
theorem v_land {V : VV} {st : Nat → Int} {tm lo : Int} {x : Dg} {fl : List Dg} {L : Nat} (h : VNet V st tm lo (x :: fl) L) {o : Nat → Nat} (ho : OrdV V o (x :: fl) L) : ∃ V', f_X16_land ((o 0 : Nat) : Int) V = some V' ∧ VNet V' st tm lo fl L ∧ FrV m1 V V' := by
  obtain ⟨h1, h2, h3, h4, h5, h6, -⟩ := h
  obtain ⟨o1, o2, o3, o4⟩ := ho
  rw [List.length_cons] at h4 h6 o1 o2 o3 o4
  generalize hn : fl.length = n at h4 h6 o1 o2 o3 o4
  have hf : o 0 < n + 1 := o1 0 (by omega)
  obtain ⟨jn, hjn, ejn⟩ := pig (n + 1) o o1 o2 n (by omega)
  obtain ⟨⟨s1, s2, s3, s4, s5, s6⟩, t1⟩ := o3 jn hjn
  rw [ejn] at s1 s2 s3 s4 s6 t1
  obtain ⟨V', w1, w2, w3, w4, w5, w6, w7⟩ := land_mem (f := o 0) (n := n) (by omega) (by omega) s5 h4 s4
  have slF : SlV V' (o 0) ((x :: fl).getD jn dg0) := ⟨by rw [w3 _ _ (by omega) (by omega), if_pos rfl]; exact s1, by rw [w3 _ _ (by omega) (by omega), if_pos rfl]; exact s2, by rw [w3 _ _ (by omega) (by omega), if_pos rfl]; exact s3, by rw [w3 _ _ (by omega) (by omega), if_pos rfl]; exact s4, s5, fun i hi => by rw [w4 i hi]; exact s6 i hi⟩
  have slO : ∀ g z, g ≠ o 0 → SlV V g z → SlV V' g z := by
    intro g z hg hz
    obtain ⟨r1, r2, r3, r4, r5, r6⟩ := hz
    exact ⟨by rw [w3 _ _ (by omega) (by omega), if_neg hg]; exact r1, by rw [w3 _ _ (by omega) (by omega), if_neg hg]; exact r2, by rw [w3 _ _ (by omega) (by omega), if_neg hg]; exact r3, by rw [w3 _ _ (by omega) (by omega), if_neg hg]; exact r4, r5, fun i hi => by rw [w5 _ (by omega)]; exact r6 i hi⟩
  have nf : ∀ i, i < n → o (i + 1) ≠ o 0 := fun i hi q => by have := o2 (i + 1) 0 (by omega) (by omega) q; omega
  have pser : ∀ i, i < n → vI V' 185 (if o (i + 1) = n then o 0 else o (i + 1)) = vI V 185 (o (i + 1)) := by
    intro i hi
    rw [w3 _ _ (by omega) (by omega)]
    split
    · next q => rw [if_pos rfl, q]
    · next q => rw [if_neg (nf i hi)]
  refine ⟨V', w1, ⟨fun i hi => by rw [w6 _ _ (by omega) (by omega)]; exact h1 i hi, by rw [w6 _ _ (by omega) (by omega)]; exact h2, by rw [w6 _ _ (by omega) (by omega)]; exact h3, by rw [w2, hn], by rw [w6 _ _ (by omega) (by omega)]; exact h5, by omega, fun i => if o (i + 1) = n then o 0 else o (i + 1), ?_, ?_, ?_, ?_⟩, w7⟩
  · intro i hi
    show (if o (i + 1) = n then o 0 else o (i + 1)) < _
    have b := o1 (i + 1) (by omega)
    have c := nf i (by omega)
    split <;> omega
  · intro i j hi hj hij
    have hij : (if o (i + 1) = n then o 0 else o (i + 1)) = (if o (j + 1) = n then o 0 else o (j + 1)) := hij
    have c1 := nf i (by omega)
    have c2 := nf j (by omega)
    have : o (i + 1) = o (j + 1) := by
      split at hij <;> split at hij <;> omega
    have := o2 (i + 1) (j + 1) (by omega) (by omega) this
    omega
  · intro i hi
    have b := o3 (i + 1) (by omega)
    refine ⟨?_, by show 0 ≤ vI V' 185 (if o (i + 1) = n then o 0 else o (i + 1)) ∧ vI V' 185 (if o (i + 1) = n then o 0 else o (i + 1)) < _; rw [pser i (by omega)]; exact b.2⟩
    show SlV V' (if o (i + 1) = n then o 0 else o (i + 1)) (fl.getD i dg0)
    split
    · next q =>
      have e : i + 1 = jn := o2 (i + 1) jn (by omega) hjn (by rw [q, ejn])
      rw [← e] at slF; exact slF
    · exact slO _ _ (nf i (by omega)) b.1
  · intro i j hij hj
    show _ ∨ (_ ∧ vI V' 185 (if o (i + 1) = n then o 0 else o (i + 1)) < vI V' 185 (if o (j + 1) = n then o 0 else o (j + 1)))
    rw [pser i (by omega), pser j (by omega)]
    exact o4 (i + 1) (j + 1) (by omega) (by omega)
