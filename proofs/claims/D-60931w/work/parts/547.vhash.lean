/-! the tape's hash -/
section VHASH
variable {V : VV} {n : Nat}
theorem v_hashTape (hn : vI V 156 4 = (n : Int)) (h5 : n ≤ 500) : ∃ V', f_X16_hashTape V = some V' ∧ (∀ i, i < 5 → vI V' 161 i = sha1 (fun i => vI V 158 i) n i) ∧ ExV (fun a => a = 159 ∨ a = 160 ∨ a = 161) V V' := by
  have stp : ∀ j (s : Int × VV), j < n → (s.1 = (j : Int) ∧ ExV (fun a => a = 159) V s.2 ∧ ∀ i, i < j → vI s.2 159 i = vI V 158 i) → ∃ s', b_X16_hashTape_2 s.1 s.2 = some (.inl s') ∧ (s'.1 = ((j + 1 : Nat) : Int) ∧ ExV (fun a => a = 159) V s'.2 ∧ ∀ i, i < j + 1 → vI s'.2 159 i = vI V 158 i) := by
    rintro j ⟨z, U⟩ hj ⟨rfl, f1, f2⟩
    dsimp only at f1 f2 ⊢
    unfold b_X16_hashTape_2
    refine ⟨((j : Int) + 1, st2 U 159 j (vI V 158 j)), ?_, by dsimp only; omega, f1.trans (ExV.st rfl), fun i hi => ?_⟩
    · rw [show w32 (w32 (U 156 4)) = (n : Int) by rw [w32_w32]; show vI U 156 4 = _; rw [f1.vI (by decide)]; exact hn, w32_nn (by omega), if_pos (by omega), l2_n (show j < 500 by omega) (by decide), Option.bind_some, f1.vI (by decide), s2_n (show j < 576 by omega) (by decide), Option.bind_some]
      rfl
    · dsimp only
      rw [vI_st2]
      by_cases c : i = j
      · rw [if_pos ⟨rfl, c⟩, c]; exact w32_vI
      · rw [if_neg (fun e => c e.2)]; exact f2 i (by omega)
  obtain ⟨⟨z, U⟩, n2, hn2, ⟨rfl, g1, g2⟩, q2⟩ := lp_inv (b := fun s : Int × VV => b_X16_hashTape_2 s.1 s.2) (fun j s => s.1 = (j : Int) ∧ ExV (fun a => a = 159) V s.2 ∧ ∀ i, i < j → vI s.2 159 i = vI V 158 i) n stp FU 0 (0, V) (by omega) (by unfold FU; omega) ⟨rfl, .refl, fun i hi => by omega⟩
  dsimp only at g1 g2
  obtain ⟨V', a1, a2, a3⟩ := e_X16_sha (V := U) h5
  refine ⟨V', ?_, fun i hi => ?_, (g1.mono (fun a ha => Or.inl ha)).trans a3⟩
  · unfold f_X16_hashTape l_X16_hashTape_2
    refine q2.trans ?_
    refine lpN_end (b := fun s : Int × VV => b_X16_hashTape_2 s.1 s.2) hn2 ?_
    dsimp only
    have e4 : w32 (U 156 4) = (n : Int) := by show vI U 156 4 = _; rw [g1.vI (by decide)]; exact hn
    unfold b_X16_hashTape_2 j_X16_hashTape_28
    rw [e4, if_neg (by omega), a1]
    rfl
  · rw [a2 i hi]
    rw [sha1_congr (f := fun i => vI U 159 i) (f' := fun i => vI V 158 i) (fun j hj => g2 j hj)]
end VHASH
