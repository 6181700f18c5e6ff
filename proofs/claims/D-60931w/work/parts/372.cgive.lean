section CGIVE
variable {A : Nat → Prop} {M M1 : MM} {r m c kx i a len : Nat} {ps sp : List Nat} {ad : Int}
theorem c_give52 (h : PoolC M a len sp) (hc : isCt M c) (hl : sp.length < len) : ∃ M', j_X9_give_52 28 (c : Int) M = some M' ∧ PoolC M' a len (sp ++ [c]) ∧ ExC (fun q => q = 28 ∨ q = a) M M' := by
  obtain ⟨h1, h2, h3, h4, h5, h6, h7, h8⟩ := id h
  obtain ⟨k, e, e2⟩ := pool_k h
  have na := pool_a28 h
  have e28 : (28 : Int) = ((28 : Nat) : Int) := rfl
  have fr : ExC (fun q => q = 28 ∨ q = a) M (sI (sR M a sp.length (c : Int)) 28 1 ((sp.length + 1 : Nat) : Int)) := (ExC_sR (Or.inr rfl)).trans (ExC_sI (Or.inl rfl))
  refine ⟨sI (sR M a sp.length (c : Int)) 28 1 ((sp.length + 1 : Nat) : Int), ?_, ⟨h1, ?_, h3, ?_, by simp; omega, h6, fun i hi => ?_, fun c' hc' => ?_⟩, fr⟩
  · unfold j_X9_give_52
    rw [e28, gfr_e h1, h2, Option.bind_some, gfi_e h1, Option.bind_some, h4, sar_n e e2 hl (by omega) (by rw [hc.1]; rfl), Option.bind_some, gfi_e (by rw [kd_sR]; exact h1), Option.bind_some, rI_sR, h4, pfi_e (by rw [kd_sR]; exact h1), Option.bind_some, cadd1]
  · rw [rR_sI, rR_ne (by omega)]; exact h2
  · rw [rI_eq rfl, w32_nn (by omega)]; simp
  · rw [List.length_append] at hi
    have hi : i < sp.length + 1 := hi
    rw [getD_snoc hi, rR_sI]
    by_cases q : i = sp.length
    · rw [if_pos q, rR_eq q]
    · rw [if_neg q, rR_ne (by omega)]; exact h7 i (by omega)
  · have hcc : isCt M c' := by
      rcases List.mem_append.mp hc' with q | q
      · exact h8 c' q
      · simp at q; rw [q]; exact hc
    have n := pool_ne h hcc
    exact hcc.exc fr (by omega) (by omega)
theorem c_give (h : PoolC M a len sp) (hu : UN M) (hc : isCt M c) (hb : sp.length ≤ 50000) : ∃ (M' : MM) (a' len' : Nat), f_X9_give 28 (c : Int) M = some M' ∧ PoolC M' a' len' (sp ++ [c]) ∧ ((a' = a ∧ len' = len ∧ nN M' = nN M ∧ nU M' = nU M) ∨ (sp.length = len ∧ a' = nN M ∧ len' = 2 * len ∧ nN M' = nN M + 1 ∧ nU M' = nU M + 2 * len)) ∧ ExA (fun q => q = 28 ∨ q = a) M M' := by
  obtain ⟨h1, h2, h3, h4, h5, h6, h7, h8⟩ := id h
  obtain ⟨k, e, e2⟩ := pool_k h
  have na := pool_a28 h
  have e28 : (28 : Int) = ((28 : Nat) : Int) := rfl
  have hl28 : 28 < nN M := hu.lt (by rw [h1]; decide)
  have hla : a < nN M := hu.lt (by rw [e]; show k ≠ 63; omega)
  have haln : aln 6 (a : Int) M = some (len : Int) := aln_e e e2.1 e2.2
  unfold f_X9_give
  rw [e28, gfi_e h1, Option.bind_some, Option.bind_some, gfr_e h1, h2, Option.bind_some, haln, Option.bind_some, h4, w32_nn (by omega), w32_nn (by omega)]
  by_cases c0 : sp.length = len
  · rw [if_pos (by omega), c2m, nar_e (j := 2 * sp.length) (w32_nn (by omega)) (by omega), Option.bind_some]
    dsimp only
    generalize hn : nN M = n at hl28 hla
    have kdn : ∀ z, kd (nw M 470 (2 * sp.length)) z = if z = n then (470, 2 * sp.length) else kd M z := fun z => by rw [kd_nw, hn]
    have fn : ExA (fun q => q = 28 ∨ q = a) M (nw M 470 (2 * sp.length)) := ExA_nw
    obtain ⟨⟨z, U⟩, n2, hn2, ⟨rfl, g1, g2⟩, q2⟩ := lp_inv (b := fun s : Int × MM => b_X9_give_24 28 (c : Int) (n : Int) s.1 s.2) (fun k s => s.1 = (k : Int) ∧ (∀ j, j < k → rR s.2 n j = ((sp.getD j 0 : Nat) : Int)) ∧ ExC (fun q => q = n) (nw M 470 (2 * sp.length)) s.2) sp.length
      (by
        rintro k' ⟨z, U⟩ hk ⟨rfl, g1, g2⟩
        dsimp only at g1 g2 ⊢
        have u28 : (kd U 28).1 = 9 := by rw [g2.kd, kdn, if_neg (by omega)]; exact h1
        have uI : rI U 28 1 = (sp.length : Int) := by rw [g2.rI (by omega), rI_nw, if_neg (by omega)]; exact h4
        have uR : rR U 28 0 = (a : Int) := by rw [g2.rR (by omega), rR_nw, if_neg (by omega)]; exact h2
        have uka : kd U a = (k, len) := by rw [g2.kd, kdn, if_neg (by omega)]; exact e
        have ukn : kd U n = (470, 2 * sp.length) := by rw [g2.kd, kdn, if_pos rfl]
        have ura : rR U a k' = ((sp.getD k' 0 : Nat) : Int) := by rw [g2.rR (by omega), rR_nw, if_neg (by omega)]; exact h7 k' hk
        have hct := h8 _ (getD_mem (d := 0) hk)
        have hlc := isCt_lt hu hct
        have uct : (kd U (sp.getD k' 0)).1 = ecl 6 := by rw [g2.kd, kdn, if_neg (by omega), hct.1]; rfl
        refine ⟨(((k' : Nat) : Int) + 1, sR U n k' ((sp.getD k' 0 : Nat) : Int)), ?_, rfl, fun j hj => ?_, g2.trans (ExC_sR rfl)⟩
        · unfold b_X9_give_24
          rw [e28, gfi_e u28, Option.bind_some, uI, w32_nn (by omega), w32_nn (by omega), if_pos (by omega), gfr_e u28, uR, Option.bind_some, lar_n uka e2 (by omega) (by omega), Option.bind_some, ura, sar_n ukn (by decide) (by omega) (by omega) uct, Option.bind_some]
          rfl
        · dsimp only
          by_cases q : j = k'
          · rw [q, rR_eq rfl]
          · rw [rR_ne (by omega)]; exact g1 j (by omega)) FU 0 (0, nw M 470 (2 * sp.length)) (by omega) (by unfold FU; omega) ⟨rfl, fun j hj => by omega, ExC.refl⟩
    dsimp only at g1 g2
    have u28 : (kd U 28).1 = 9 := by rw [g2.kd, kdn, if_neg (by omega)]; exact h1
    have uI : rI U 28 1 = (sp.length : Int) := by rw [g2.rI (by omega), rI_nw, if_neg (by omega)]; exact h4
    have fU : ExA (fun q => q = 28 ∨ q = a) M U := by
      refine ⟨by rw [g2.nN]; exact fn.1, fun hu b hb => by rw [g2.kd]; exact fn.2.1 hu b (by rw [g2.nN] at hb; exact hb), fun b hb => by rw [g2.kd]; exact fn.2.2.1 b hb, fun b hb hA => ?_⟩
      have t1 := g2.1 b (by omega)
      have t2 := fn.2.2.2 b hb hA
      exact ⟨fun i => (t1.1 i).trans (t2.1 i), fun i => (t1.2 i).trans (t2.2 i)⟩
    have hP : PoolC (sR U 28 0 (n : Int)) n (2 * sp.length) sp := by
      refine ⟨u28, by rw [rR_eq rfl], Or.inr (by rw [kd_sR, g2.kd, kdn, if_pos rfl]), uI, by omega, by omega, fun i hi => by rw [rR_ne (by omega)]; exact g1 i hi, fun c' hc' => ?_⟩
      have hcc := h8 c' hc'
      have hlc := isCt_lt hu hcc
      have hcU := hcc.exa fU hu (by have := pool_ne h hcc; omega) (by have := pool_ne h hcc; omega)
      exact hcU.exc (ExC_sR (A := fun q => q = 28) rfl) (by have := pool_ne h hcc; omega) (by have := pool_ne h hcc; omega)
    have hcn := pool_ne h hc
    have hlc := isCt_lt hu hc
    have hcU : isCt (sR U 28 0 (n : Int)) c := (hc.exa fU hu (by omega) (by omega)).exc (ExC_sR (A := fun q => q = 28) rfl) (by omega) (by omega)
    obtain ⟨M', b1, b2, b3⟩ := c_give52 hP hcU (by omega)
    refine ⟨M', n, 2 * sp.length, ?_, b2, Or.inr ⟨c0, rfl, by omega, by rw [b3.nN, nN_sR, g2.nN, nN_nw, hn], by rw [b3.nU, nU_sR, g2.nU, nU_nw]; omega⟩, ?_⟩
    · unfold l_X9_give_24
      refine q2.trans ?_
      refine lpN_end (b := fun s : Int × MM => b_X9_give_24 28 (c : Int) (n : Int) s.1 s.2) hn2 ?_
      dsimp only
      unfold b_X9_give_24 j_X9_give_47
      rw [e28, gfi_e u28, Option.bind_some, uI, if_neg (by omega), pfr_e u28, Option.bind_some]
      rw [show j_X9_give_52 ((28 : Nat) : Int) (c : Int) (sR U 28 0 (n : Int)) = _ from b1]
    · have t1 := (fU.oldR (k := 0) (v := (n : Int)) (Or.inl rfl))
      refine ⟨Nat.le_trans t1.1 (by rw [b3.nN]; exact Nat.le_refl _), fun hu b hb => by rw [b3.kd]; exact t1.2.1 hu b (by rw [b3.nN] at hb; exact hb), fun b hb => by rw [b3.kd]; exact t1.2.2.1 b hb, fun b hb hA => ?_⟩
      have t2 := b3.1 b (by omega)
      have t3 := t1.2.2.2 b hb hA
      exact ⟨fun i => (t2.1 i).trans (t3.1 i), fun i => (t2.2 i).trans (t3.2 i)⟩
  · rw [if_neg (by omega)]
    obtain ⟨M', b1, b2, b3⟩ := c_give52 h hc (by omega)
    exact ⟨M', a, len, b1, b2, Or.inl ⟨rfl, rfl, b3.nN, b3.nU⟩, ExC.exa b3⟩
end CGIVE
