def m9 : Nat → Bool := fun m => m == 9
/-- what came -/
def InV (V : VV) (l : List Int) : Prop := vI V 156 138 = (l.length : Int) ∧ l.length ≤ 460 ∧ ∀ i, i < l.length → vI V 271 i = l.getD i 0
theorem v_takeIn {V : VV} {f : Nat} {x : Dg} (hf : f < 400) (hx : SlV V f x) : ∃ V', f_X16_takeIn (f : Int) V = some V' ∧ InV V' x.2.2.2 ∧ FrV m9 V V' := by
  obtain ⟨s1, s2, s3, s4, s5, s6⟩ := hx
  have hwf := w32_j (j := f) (by omega)
  let l := x.2.2.2
  have hl : l.length ≤ 460 := s5
  let V1 := st2 V 156 138 (l.length : Int)
  have c0 : vI V1 156 138 = (l.length : Int) := by
    show vI (st2 V 156 138 _) 156 138 = _
    rw [vI_st2, if_pos ⟨rfl, rfl⟩, w32_id (by omega) (by omega)]
  obtain ⟨⟨z, W⟩, n2, hn2, hI2, q2⟩ := lp_inv (b := fun s : Int × VV => b_X16_takeIn_12 (f : Int) s.1 s.2) (fun k s => s.1 = (k : Int) ∧ (∀ i, i < k → vI s.2 271 i = l.getD i 0) ∧ ExV (fun a => a = 271) V1 s.2) l.length
    (fun k s hk hs => by
      obtain ⟨z, U⟩ := s
      obtain ⟨rfl, g1, g2⟩ := hs
      simp only at g1 g2
      have hw := w32_j (j := k) (by omega)
      have hwi : w32 (460 * (f : Int) + (k : Int)) = ((460 * f + k : Nat) : Int) := by rw [w32_id (by omega) (by omega)]; omega
      have e1 : w32 (U 156 138) = (l.length : Int) := (g2.vI (by decide) 138).trans c0
      have e2 : vI U 187 (460 * f + k) = l.getD k 0 := by
        rw [g2.vI (by decide)]
        show vI (st2 V 156 138 _) 187 _ = _
        rw [vI_st2, if_neg (by omega)]; exact s6 k hk
      refine ⟨(((k + 1 : Nat) : Int), st2 U 271 k (l.getD k 0)), ?_, rfl, ?_, g2.trans (ExV.st rfl)⟩
      · show b_X16_takeIn_12 _ _ _ = _
        unfold b_X16_takeIn_12
        rw [e1, hw, w32_id (z := (l.length : Int)) (by omega) (by omega), if_pos (by omega), l2_e hwi (by omega), Option.bind_some, e2, s2_e hw (by omega)]
        rfl
      · intro i hi
        show vI (st2 U 271 k _) 271 i = _
        rw [vI_st2]
        by_cases q : i = k
        · rw [if_pos ⟨rfl, q⟩, q, ← e2, w32_vI]
        · rw [if_neg (fun y => q y.2)]; exact g1 i (by omega)) FU 0 (0, V1) (by omega) (by unfold FU; omega) ⟨rfl, fun i hi => by omega, ExV.refl⟩
  obtain ⟨rfl, g1, g2⟩ := hI2
  simp only at g1 g2
  have e1 : vI W 156 138 = (l.length : Int) := (g2.vI (by decide) 138).trans c0
  refine ⟨W, ?_, ⟨e1, s5, g1⟩, ?_⟩
  · unfold f_X16_takeIn
    rw [l2_e hwf hf, Option.bind_some, s4, p2_e, Option.bind_some]
    unfold l_X16_takeIn_12
    refine Eq.trans q2 ?_
    refine lpN_end hn2 ?_
    show b_X16_takeIn_12 _ (l.length : Int) W = _
    unfold b_X16_takeIn_12
    have e1 : w32 (W 156 138) = (l.length : Int) := e1
    rw [e1, if_neg (by omega)]
  · have a1 : FrV m9 V V1 := FrV_st (by rfl)
    exact a1.trans (FrV_ex g2 (fun a i h => by rw [h]; rfl))
