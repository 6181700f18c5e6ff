/-! the class's Sha object (at 24) -/
def isSha (M : MM) : Prop := (kd M 24).1 = 8 ∧ rR M 24 0 = ((25 : Nat) : Int) ∧ rR M 24 1 = ((26 : Nat) : Int) ∧ rR M 24 2 = ((27 : Nat) : Int) ∧ kd M 25 = (176, 5) ∧ kd M 26 = (192, 80) ∧ kd M 27 = (209, 64)
theorem isSha.ex {A : Nat → Prop} {M M1 : MM} (h : Ex A M M1) (hs : isSha M) : isSha M1 := by
  obtain ⟨h1, h2, h3, h4, h5, h6, h7⟩ := hs
  exact ⟨by rw [h.kd]; exact h1, by rw [h.rR]; exact h2, by rw [h.rR]; exact h3, by rw [h.rR]; exact h4, by rw [h.kd]; exact h5, by rw [h.kd]; exact h6, by rw [h.kd]; exact h7⟩
theorem isSha.g0 {M : MM} (h : isSha M) : gfr 8 0 ((24 : Nat) : Int) M = some ((25 : Nat) : Int) := by rw [gfr_e h.1, h.2.1]
theorem isSha.g1 {M : MM} (h : isSha M) : gfr 8 1 ((24 : Nat) : Int) M = some ((26 : Nat) : Int) := by rw [gfr_e h.1, h.2.2.1]
theorem isSha.g2 {M : MM} (h : isSha M) : gfr 8 2 ((24 : Nat) : Int) M = some ((27 : Nat) : Int) := by rw [gfr_e h.1, h.2.2.2.1]
theorem isSha.l0 {M : MM} (h : isSha M) {i : Int} {j : Nat} (hi : w32 i = (j : Int)) (hj : j < 5) : lai ((25 : Nat) : Int) i M = some (rI M 25 j) := lai_e h.2.2.2.2.1 (by decide) (by decide) hi hj
theorem isSha.l1 {M : MM} (h : isSha M) {i : Int} {j : Nat} (hi : w32 i = (j : Int)) (hj : j < 80) : lai ((26 : Nat) : Int) i M = some (rI M 26 j) := lai_e h.2.2.2.2.2.1 (by decide) (by decide) hi hj
theorem isSha.l2 {M : MM} (h : isSha M) {i : Int} {j : Nat} (hi : w32 i = (j : Int)) (hj : j < 64) : lab ((27 : Nat) : Int) i M = some (rB M 27 j) := lab_e h.2.2.2.2.2.2 (by decide) (by decide) hi hj
theorem isSha.s0 {M : MM} (h : isSha M) {i v : Int} {j : Nat} (hi : w32 i = (j : Int)) (hj : j < 5) : sai ((25 : Nat) : Int) i v M = some (sI M 25 j v) := sai_e h.2.2.2.2.1 (by decide) (by decide) hi hj
theorem isSha.s1 {M : MM} (h : isSha M) {i v : Int} {j : Nat} (hi : w32 i = (j : Int)) (hj : j < 80) : sai ((26 : Nat) : Int) i v M = some (sI M 26 j v) := sai_e h.2.2.2.2.2.1 (by decide) (by decide) hi hj
theorem isSha.s2 {M : MM} (h : isSha M) {i v : Int} {j : Nat} (hi : w32 i = (j : Int)) (hj : j < 64) : sab ((27 : Nat) : Int) i v M = some (sI M 27 j v) := sab_e h.2.2.2.2.2.2 (by decide) (by decide) hi hj
theorem e_X8_work {M : MM} (hM : isSha M) : ∃ M', f_X8_work ((24 : Nat) : Int) M = some M' ∧ (∀ i, i < 5 → rI M' 25 i = shc (fun i => rI M 25 i) (fun j => band (rB M 27 j) 255) i) ∧ Ex (fun a => a = 25 ∨ a = 26) M M' := by
  let B : Nat → Int := fun j => band (rB M 27 j) 255
  obtain ⟨⟨x1, W1⟩, n1, hn1, hI1, q1⟩ := lp_inv (b := fun s : Int × MM => b_X8_work_2 ((24 : Nat) : Int) s.1 s.2) (fun t s => s.1 = (t : Int) ∧ (∀ j, j < t → rI s.2 26 j = schW B j) ∧ Ex (fun a => a = 26) M s.2) 16
    (fun t s ht hs => by
      obtain ⟨z, W⟩ := s
      obtain ⟨rfl, h2, h3⟩ := hs
      simp only at h2 h3
      have hW := hM.ex h3
      have hw := w32_j (j := t) (by omega)
      have e : ∀ k : Nat, k < 4 → w32 (4 * (t : Int) + (k : Int)) = ((4 * t + k : Nat) : Int) := fun k hk => by rw [w32_id (by omega) (by omega)]; omega
      have r : ∀ k, band (rB W 27 (4 * t + k)) 255 = B (4 * t + k) := fun k => by
        show _ = band (rB M 27 (4 * t + k)) 255
        rw [h3.rB (by decide)]
      have e1 : w32 (4 * (t : Int) + 1) = ((4 * t + 1 : Nat) : Int) := e 1 (by omega)
      have e2 : w32 (4 * (t : Int) + 2) = ((4 * t + 2 : Nat) : Int) := e 2 (by omega)
      have e3 : w32 (4 * (t : Int) + 3) = ((4 * t + 3 : Nat) : Int) := e 3 (by omega)
      have e0 := e 0 (by omega)
      simp only [Int.natCast_zero, Int.add_zero, Nat.add_zero] at e0
      refine ⟨(((t + 1 : Nat) : Int), sI W 26 t (wrd B t)), ?_, rfl, ?_, h3.trans (Ex.st rfl)⟩
      · show b_X8_work_2 _ _ _ = _
        unfold b_X8_work_2
        simp only [hw, show w32 16 = 16 by decide, if_pos (show (t : Int) < 16 by omega), hW.g1, hW.g2, hW.l2 e0 (by omega), hW.l2 e1 (by omega), hW.l2 e2 (by omega), hW.l2 e3 (by omega), hW.s1 hw (show t < 80 by omega), Option.bind_some, show band (rB W 27 (4 * t)) 255 = B (4 * t) from r 0, r 1, r 2, r 3]
        rfl
      · intro j hj
        show rI (sI W 26 t (wrd B t)) 26 j = _
        rw [rI_sI]
        by_cases hjt : j = t
        · rw [if_pos ⟨rfl, hjt⟩, hjt, schW_lt ht]
        · rw [if_neg (fun q => hjt q.2)]
          exact h2 j (by omega)) FU 0 (0, M) (by decide) (by decide) ⟨rfl, fun j hj => by omega, Ex.refl⟩
  obtain ⟨rfl, hs1, hx1⟩ := hI1
  simp only at hs1 hx1
  have hb1 : b_X8_work_2 ((24 : Nat) : Int) ((16 : Nat) : Int) W1 = xit (j_X8_work_86 ((24 : Nat) : Int) W1) := by
    unfold b_X8_work_2
    rw [if_neg (by decide)]
  obtain ⟨⟨x2, W2⟩, n2, hn2, hI2, q2⟩ := lp_inv (b := fun s : Int × MM => b_X8_work_89 ((24 : Nat) : Int) s.1 s.2) (fun t s => s.1 = ((16 + t : Nat) : Int) ∧ (∀ j, j < 16 + t → rI s.2 26 j = schW B j) ∧ Ex (fun a => a = 26) M s.2) 64
    (fun t s ht hs => by
      obtain ⟨z, W⟩ := s
      obtain ⟨rfl, h2, h3⟩ := hs
      simp only at h2 h3
      have hW := hM.ex h3
      have hw := w32_j (j := 16 + t) (by omega)
      have e : ∀ k : Nat, k ≤ 16 → w32 (((16 + t : Nat) : Int) - (k : Int)) = ((16 + t - k : Nat) : Int) := fun k hk => by rw [w32_id (by omega) (by omega)]; omega
      have e3 : w32 (((16 + t : Nat) : Int) - 3) = ((16 + t - 3 : Nat) : Int) := e 3 (by omega)
      have e8 : w32 (((16 + t : Nat) : Int) - 8) = ((16 + t - 8 : Nat) : Int) := e 8 (by omega)
      have e14 : w32 (((16 + t : Nat) : Int) - 14) = ((16 + t - 14 : Nat) : Int) := e 14 (by omega)
      have e16 : w32 (((16 + t : Nat) : Int) - 16) = ((16 + t - 16 : Nat) : Int) := e 16 (by omega)
      refine ⟨(((16 + (t + 1) : Nat) : Int), sI W 26 (16 + t) (rol (bxor (bxor (bxor (schW B (16 + t - 3)) (schW B (16 + t - 8))) (schW B (16 + t - 14))) (schW B (16 + t - 16))) 1)), ?_, rfl, ?_, h3.trans (Ex.st rfl)⟩
      · show b_X8_work_89 _ _ _ = _
        unfold b_X8_work_89
        simp only [hw, show w32 80 = 80 by decide, if_pos (show ((16 + t : Nat) : Int) < 80 by omega), hW.g1, hW.l1 e3 (by omega), hW.l1 e8 (by omega), hW.l1 e14 (by omega), hW.l1 e16 (by omega), e_rol, hW.s1 hw (show 16 + t < 80 by omega), Option.bind_some, h2 (16 + t - 3) (by omega), h2 (16 + t - 8) (by omega), h2 (16 + t - 14) (by omega), h2 (16 + t - 16) (by omega)]
        rfl
      · intro j hj
        show rI (sI W 26 (16 + t) _) 26 j = _
        rw [rI_sI]
        by_cases hjt : j = 16 + t
        · rw [if_pos ⟨rfl, hjt⟩, hjt]
          exact (schW_ge (by omega)).symm
        · rw [if_neg (fun q => hjt q.2)]
          exact h2 j (by omega)) FU 0 (16, W1) (by decide) (by decide) ⟨rfl, hs1, hx1⟩
  obtain ⟨rfl, hs2, hx2⟩ := hI2
  simp only at hs2 hx2
  have hW2 := hM.ex hx2
  have hb2 : b_X8_work_89 ((24 : Nat) : Int) ((16 + 64 : Nat) : Int) W2 = xit (j_X8_work_149 ((24 : Nat) : Int) W2) := by
    unfold b_X8_work_89
    rw [if_neg (by decide)]
  have hh : ∀ i, rI W2 25 i = rI M 25 i := fun i => hx2.rI (by decide) i
  let s0 : S5 := (rI M 25 0, rI M 25 1, rI M 25 2, rI M 25 3, rI M 25 4)
  have s3 : ∀ t : Nat, t < 80 → ∀ s : S5, b_X8_work_189 ((24 : Nat) : Int) s.1 s.2.1 s.2.2.1 s.2.2.2.1 s.2.2.2.2 (t : Int) W2 = some (.inl ((rnd (schW B) t s).1, (rnd (schW B) t s).2.1, (rnd (schW B) t s).2.2.1, (rnd (schW B) t s).2.2.2.1, (rnd (schW B) t s).2.2.2.2, ((t + 1 : Nat) : Int))) := by
    intro t ht s
    have hw := w32_j (j := t) (by omega)
    unfold b_X8_work_189
    rw [hw, show w32 80 = 80 by decide, if_pos (by omega), e_rol, Option.bind_some, e_mixed ht, Option.bind_some, hW2.g1, Option.bind_some, hW2.l1 hw ht, Option.bind_some, e_rol, Option.bind_some, hs2 t (by omega)]
    rfl
  let r := rnds (schW B) 80 s0
  have q3 : l_X8_work_189 ((24 : Nat) : Int) s0.1 s0.2.1 s0.2.2.1 s0.2.2.2.1 s0.2.2.2.2 0 W2 = j_X8_work_249 ((24 : Nat) : Int) r.1 r.2.1 r.2.2.1 r.2.2.2.1 r.2.2.2.2 W2 := by
    unfold l_X8_work_189
    refine lp_seq (fun t => ((rnds (schW B) t s0).1, (rnds (schW B) t s0).2.1, (rnds (schW B) t s0).2.2.1, (rnds (schW B) t s0).2.2.2.1, (rnds (schW B) t s0).2.2.2.2, ((t : Nat) : Int))) 80 (fun t ht => s3 t ht _) ?_ FU 0 (by decide) (by decide)
    show b_X8_work_189 _ _ _ _ _ _ ((80 : Nat) : Int) W2 = _
    unfold b_X8_work_189
    rw [if_neg (by decide)]
  have a0 : isSha (sI W2 25 0 (rI W2 25 0 + r.1)) := hW2
  refine ⟨sI (sI (sI (sI (sI W2 25 0 (rI M 25 0 + r.1)) 25 1 (rI M 25 1 + r.2.1)) 25 2 (rI M 25 2 + r.2.2.1)) 25 3 (rI M 25 3 + r.2.2.2.1)) 25 4 (rI M 25 4 + r.2.2.2.2), ?_, ?_, ?_⟩
  · unfold f_X8_work l_X8_work_2
    refine Eq.trans q1 ?_
    refine Eq.trans (lpN_end (b := fun s : Int × MM => b_X8_work_2 ((24 : Nat) : Int) s.1 s.2) (s := (((16 : Nat) : Int), W1)) hn1 hb1) ?_
    unfold j_X8_work_86 l_X8_work_89
    refine Eq.trans q2 ?_
    refine Eq.trans (lpN_end (b := fun s : Int × MM => b_X8_work_89 ((24 : Nat) : Int) s.1 s.2) (s := (((16 + 64 : Nat) : Int), W2)) hn2 hb2) ?_
    unfold j_X8_work_149
    simp only [hW2.g0, Option.bind_some, hW2.l0 (i := 0) (j := 0) rfl (by decide), hW2.l0 (i := 1) (j := 1) rfl (by decide), hW2.l0 (i := 2) (j := 2) rfl (by decide), hW2.l0 (i := 3) (j := 3) rfl (by decide), hW2.l0 (i := 4) (j := 4) rfl (by decide), hh]
    refine Eq.trans q3 ?_
    unfold j_X8_work_249
    have st : ∀ (M1 : MM) (j : Nat) (v : Int), isSha M1 → isSha (sI M1 25 j v) := fun M1 j v h => h
    have b0 := st W2 0 (rI M 25 0 + r.1) hW2
    have b1 := st _ 1 (rI M 25 1 + r.2.1) b0
    have b2 := st _ 2 (rI M 25 2 + r.2.2.1) b1
    have b3 := st _ 3 (rI M 25 3 + r.2.2.2.1) b2
    rw [hW2.g0, Option.bind_some, hW2.l0 (i := 0) (j := 0) rfl (by decide), Option.bind_some, hW2.s0 (i := 0) (j := 0) rfl (by decide), Option.bind_some, hh,
      b0.g0, Option.bind_some, b0.l0 (i := 1) (j := 1) rfl (by decide), Option.bind_some, b0.s0 (i := 1) (j := 1) rfl (by decide), Option.bind_some, rI_sI, if_neg (by decide), hh,
      b1.g0, Option.bind_some, b1.l0 (i := 2) (j := 2) rfl (by decide), Option.bind_some, b1.s0 (i := 2) (j := 2) rfl (by decide), Option.bind_some, rI_sI, if_neg (by decide), rI_sI, if_neg (by decide), hh,
      b2.g0, Option.bind_some, b2.l0 (i := 3) (j := 3) rfl (by decide), Option.bind_some, b2.s0 (i := 3) (j := 3) rfl (by decide), Option.bind_some, rI_sI, if_neg (by decide), rI_sI, if_neg (by decide), rI_sI, if_neg (by decide), hh,
      b3.g0, Option.bind_some, b3.l0 (i := 4) (j := 4) rfl (by decide), Option.bind_some, b3.s0 (i := 4) (j := 4) rfl (by decide), Option.bind_some, rI_sI, if_neg (by decide), rI_sI, if_neg (by decide), rI_sI, if_neg (by decide), rI_sI, if_neg (by decide), hh]
  · intro i hi
    have h5 : i = 0 ∨ i = 1 ∨ i = 2 ∨ i = 3 ∨ i = 4 := by omega
    simp only [rI_sI]
    rcases h5 with rfl | rfl | rfl | rfl | rfl <;> simp [shc] <;> rfl
  · have hx : Ex (fun a => a = 25 ∨ a = 26) M W2 := hx2.mono (fun a h => Or.inr h)
    exact ((((hx.trans (Ex.st (Or.inl rfl))).trans (Ex.st (Or.inl rfl))).trans (Ex.st (Or.inl rfl))).trans (Ex.st (Or.inl rfl))).trans (Ex.st (Or.inl rfl))
