def BodyV (V : VV) (l : List Int) : Prop := vI V 156 64 = (l.length : Int) ∧ l.length ≤ 325 ∧ ∀ i, i < l.length → vI V 209 i = l.getD i 0
theorem BodyV_fr {S : Nat → Bool} {V V1 : VV} {l : List Int} (h : FrV S V V1) (hs : S 9 = false) (ho : BodyV V l) : BodyV V1 l := ⟨by rw [fv h (show S (mv 156 64) = false from hs)]; exact ho.1, ho.2.1, fun i hi => by rw [fv h (show S (mv 209 i) = false from hs)]; exact ho.2.2 i hi⟩
/-- one byte more of a body -/
theorem v_bodyByte {V : VV} {l : List Int} {x y : Int} (h : BodyV V l) (hl : l.length < 325) (hx : band x 255 = y) (hy : 0 ≤ y ∧ y < 256) : ∃ V', f_X16_bodyByte x V = some V' ∧ BodyV V' (l ++ [y]) ∧ FrV m9 V V' ∧ ExV (fun a => a = 209 ∨ a = 156) V V' := by
  obtain ⟨h1, h2, h3⟩ := h
  have e : w32 (V 156 64) = (l.length : Int) := h1
  have hw : w32 (l.length : Int) = (l.length : Int) := w32_j (by omega)
  have k1 : w32 (st2 V 209 l.length y 156 64) = (l.length : Int) := by
    show vI (st2 V 209 l.length y) 156 64 = _
    rw [vI_st2, if_neg (by omega)]; exact h1
  refine ⟨st2 (st2 V 209 l.length y) 156 64 ((l.length : Int) + 1), ?_, ⟨?_, ?_, ?_⟩, (FrV_st (by rfl)).trans (FrV_st (by rfl)), (ExV.st (Or.inl rfl)).trans (ExV.st (Or.inr rfl))⟩
  · unfold f_X16_bodyByte
    rw [e, s2_e hw hl, Option.bind_some, hx, k1, p2_e]; rfl
  · rw [vI_st2, if_pos ⟨rfl, rfl⟩, w32_id (by omega) (by omega), List.length_append]; simp
  · rw [List.length_append, List.length_singleton]; omega
  · intro i hi
    rw [List.length_append, List.length_singleton] at hi
    rw [vI_st2, if_neg (by omega), vI_st2]
    by_cases q : i = l.length
    · rw [if_pos ⟨rfl, q⟩, w32_id (by omega) (by omega), q]; simp
    · rw [if_neg (fun z => q z.2), h3 i (by omega)]
      simp [List.getElem?_append, show i < l.length by omega]
theorem v_bodyKeyL {V : VV} {e n p : Nat} {l : List Int} (h : mA e n) (hne : e ≠ 209) (hp : p + 5 ≤ n) (hn : n ≤ 1000000) (ho : BodyV V l) (hl : l.length + 20 ≤ 325) : ∃ V', l_X16_bodyKey_7 (e : Int) (p : Int) 0 V = some V' ∧ BodyV V' (l ++ kby (kV V e p)) ∧ FrV m9 V V' ∧ ExV (fun a => a = 209 ∨ a = 156) V V' := by
  have w20 : w32 20 = 20 := by decide
  obtain ⟨⟨z, W⟩, n2, hn2, hI2, q2⟩ := lp_inv (b := fun s : Int × VV => b_X16_bodyKey_7 (e : Int) (p : Int) s.1 s.2) (fun k s => s.1 = (k : Int) ∧ BodyV s.2 (l ++ (kby (kV V e p)).take k) ∧ FrV m9 V s.2 ∧ ExV (fun a => a = 209 ∨ a = 156) V s.2) 20
    (fun k s hk hs => by
      obtain ⟨z, U⟩ := s
      obtain ⟨rfl, g1, g2, g3⟩ := hs
      simp only at g1 g2 g3
      have hwk := w32_j (j := k) (by omega)
      have len : (l ++ (kby (kV V e p)).take k).length < 325 := by
        rw [List.length_append, List.length_take]; omega
      have e1 : lp (e : Int) ((p : Int) + ((k / 4 : Nat) : Int)) U = some (kV V e p (k / 4)) := by
        rw [lpK h hp hn (by omega)]
        show some (vI U e _) = some (vI V e _)
        rw [g3.vI (by have := h.1; omega)]
      have e2 : (24 : Int) - 8 * ((k % 4 : Nat) : Int) = ((8 * (3 - k % 4) : Nat) : Int) := by omega
      obtain ⟨U', r1, r2, r3, r4⟩ := v_bodyByte g1 len (by_sh (kV V e p (k / 4)) (j := 3 - k % 4) (by omega)) (by_rg _ _)
      refine ⟨(((k + 1 : Nat) : Int), U'), ?_, rfl, ?_, g2.trans r3, g3.trans r4⟩
      · show b_X16_bodyKey_7 _ _ _ _ = _
        unfold b_X16_bodyKey_7
        rw [hwk, w20, if_pos (by omega), dvi_e (p := k) (q := 4) hwk (by decide) (by decide), Option.bind_some, e1, Option.bind_some, rmi_e (p := k) (q := 4) hwk (by decide) (by decide), Option.bind_some, e2, r1]
        rfl
      · show BodyV U' _
        rw [kby_tk _ hk, ← List.append_assoc]; exact r2) FU 0 (0, V) (by omega) (by unfold FU; omega) ⟨rfl, by simpa using ho, FrV.refl, ExV.refl⟩
  obtain ⟨rfl, g1, g2, g3⟩ := hI2
  simp only at g1 g2 g3
  rw [List.take_of_length_le (by unfold kby; rw [kbN_len]; omega)] at g1
  refine ⟨W, ?_, g1, g2, g3⟩
  unfold l_X16_bodyKey_7
  refine Eq.trans q2 ?_
  refine lpN_end hn2 ?_
  show b_X16_bodyKey_7 _ _ ((20 : Nat) : Int) W = _
  unfold b_X16_bodyKey_7
  rw [if_neg (by decide)]
theorem v_bodyKey {V : VV} {e n p : Nat} (h : mA e n) (hne : e ≠ 209) (hp : p + 5 ≤ n) (hn : n ≤ 1000000) : ∃ V', f_X16_bodyKey (e : Int) (p : Int) V = some V' ∧ BodyV V' (kby (kV V e p)) ∧ FrV m9 V V' ∧ ExV (fun a => a = 209 ∨ a = 156) V V' := by
  have o0 : BodyV (st2 V 156 64 0) [] := ⟨by rw [vI_st2, if_pos ⟨rfl, rfl⟩]; decide, by decide, fun i hi => by simp at hi⟩
  obtain ⟨V', g1, g2, g3, g4⟩ := v_bodyKeyL h hne hp hn o0 (by decide)
  have x0 : ExV (fun a => a = 209 ∨ a = 156) V (st2 V 156 64 0) := ExV.st (Or.inr rfl)
  have kk : kV (st2 V 156 64 0) e p = kV V e p := by
    funext i
    exact x0.vI (by have := h.1; omega) _
  rw [kk, List.nil_append] at g2
  refine ⟨V', ?_, g2, FrV.trans (FrV_st (by rfl)) g3, x0.trans g4⟩
  unfold f_X16_bodyKey
  rw [p2_e, Option.bind_some]; exact g1
theorem by_0 (x : Int) : band x 255 = bush x ((8 * 0 : Nat) : Int) % 256 := by
  have := by_sh x (j := 0) (by decide)
  rw [← this, band255, band255, bshr_n (by decide), Int.shiftRight_eq_div_pow]
  have d1 := u32_emod x
  have d2 := u32_emod (w32 x)
  rw [u32_w32] at d2
  simp only [Nat.mul_zero, Nat.pow_zero]
  omega
theorem v_pairOut {V : VV} {l : List Int} {x : Int} (h : OutV V l) (hl : l.length + 2 ≤ 460) : ∃ V', f_X16_pairOut x V = some V' ∧ OutV V' (l ++ be x 2) ∧ FrV m9 V V' ∧ ExV (fun a => a = 188 ∨ a = 156) V V' := by
  obtain ⟨V1, a1, a2, a3, a4⟩ := v_byteOut h (by omega) (by_sh x (j := 1) (by decide)) (by_rg _ _)
  obtain ⟨V2, b1, b2, b3, b4⟩ := v_byteOut (x := x) a2 (by rw [List.length_append, List.length_singleton]; omega) (by_0 x) (by_rg _ _)
  refine ⟨V2, ?_, ?_, a3.trans b3, a4.trans b4⟩
  · unfold f_X16_pairOut
    show ((f_X16_byteOut (bshr x ((8 * 1 : Nat) : Int)) V).bind _) = _
    rw [a1, Option.bind_some, b1]; rfl
  · rw [List.append_assoc] at b2; exact b2
