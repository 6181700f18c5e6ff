theorem aeq_n {α : Type} {x y : Nat} {A B : Option α} : aeq (x : Int) (y : Int) A B = if x = y then A else B := by
  unfold aeq
  rw [if_pos ⟨by omega, by omega⟩]
  by_cases c : x = y
  · rw [if_pos c, if_pos (by omega)]
  · rw [if_neg c, if_neg (by omega)]
section CSEEL
variable {M M1 M2 : MM} {ow ow1 ow2 : Nat → Nat × Nat} {t ko m n bA i j c k kx a len : Nat} {own : Ky} {T : List Row} {pf : Nat → Bool} {B : Nat → Nat} {P : Nat → Bool → List Nat} {Cn : Nat → Bool → List (Ky × Int)} {fl : Nat → Int} {sp : List Nat} {b : Bool} {ad : Int} {x : Row}
theorem OwF.refl : OwF M t ow ow := fun _ _ => ⟨rfl, fun _ => rfl, fun _ _ => rfl⟩
theorem OwF.trans {A : Nat → Prop} (h : ExA A M M1) (h1 : OwF M t ow ow1) (h2 : OwF M1 t ow1 ow2) : OwF M t ow ow2 := fun z hz => by
  have a := h1 z hz
  have hz1 := Nat.lt_of_lt_of_le hz h.1
  have b := h2 z hz1
  refine ⟨by rw [b.1, a.1], fun q => by rw [b.2.1 (by rw [a.1]; exact q), a.2.1 q], fun q1 q2 => ?_⟩
  have e := a.2.2 q1 q2
  rw [b.2.2 (by rw [e]; exact q1) (by rw [h.kd hz]; exact q2), e]
/-- buckets split until there is room, or the bucket is that of one number -/
theorem c_seeL {C : Nat} (hC : C < 160) : ∀ (d n : Nat) (M : MM) (ow : Nat → Nat × Nat) (bA : Nat) (B : Nat → Nat) (P : Nat → Bool → List Nat) (Cn : Nat → Bool → List (Ky × Int)) (fl : Nat → Int) (fu : Nat), d = 160 - n → d < fu → TT M ow t ko m own T pf n bA B P Cn fl a len sp →
    ∃ (M' : MM) (ow' : Nat → Nat × Nat) (n' bA' : Nat) (B' : Nat → Nat) (P' : Nat → Bool → List Nat) (Cn' : Nat → Bool → List (Ky × Int)) (fl' : Nat → Int), lpN (fun s : Int × MM => b_X20_see_72 (t : Int) (kx : Int) ad ((C : Nat) : Int) s.1 s.2) fu (((B (min C (n - 1)) : Nat) : Int), M) = j_X20_see_123 (t : Int) (kx : Int) ad ((B' (min C (n' - 1)) : Nat) : Int) M' ∧ TT M' ow' t ko m own T pf n' bA' B' P' Cn' fl' a len sp ∧ ¬ ((P' (min C (n' - 1)) false).length = m ∧ min C (n' - 1) = n' - 1 ∧ n' < 160) ∧ nN M' + 5 * bA = nN M + 5 * bA' ∧ nU M' + (7 + 2 * m) * bA = nU M + (7 + 2 * m) * bA' ∧ OwF M t ow ow' ∧ (∀ i, i < bA → B' i = B i) ∧ (∀ i, bA ≤ i → i < bA' → nN M ≤ B' i) ∧ bA ≤ bA' ∧ ExA (A3 B bA t) M M' ∧ (∀ z, isK M z → isK M' z ∧ kC M' z = kC M z ∧ kd M' z = kd M z) ∧ n ≤ n' := by
  intro d
  induction d with
  | zero =>
    intro n M ow bA B P Cn fl fu hd hfu h
    obtain ⟨f, rfl⟩ : ∃ f, fu = f + 1 := ⟨fu - 1, by omega⟩
    obtain ⟨⟨hu, hS, hO, hk, hB, hP, hCn, hF, hL, hN, hW, ht⟩, h1, h2, h3, h4, h5, h6⟩ := id h
    have hb := hB.1
    refine ⟨M, ow, n, bA, B, P, Cn, fl, ?_, h, by omega, rfl, rfl, OwF.refl, fun i _ => rfl, fun i q1 q2 => by omega, Nat.le_refl _, ExA.refl, fun z hz => ⟨hz, rfl, rfl⟩, Nat.le_refl _⟩
    refine lpN_xit (b := fun s : Int × MM => b_X20_see_72 (t : Int) (kx : Int) ad ((C : Nat) : Int) s.1 s.2) ?_
    dsimp only
    have bk := (hB.2.1 (min C (n - 1)) (by omega)).2.1
    have bkl := (hB.2.1 (n - 1) (by omega))
    have row : RowC M (B (min C (n - 1)) + 1) m (P (min C (n - 1)) false) := (hP (min C (n - 1)) false (by omega)).1
    unfold b_X20_see_72
    rw [gfr_e (by rw [bk.1]), bk.2.1, Option.bind_some, ck_e bk.2.2.2.1.1, c_isFull row, Option.bind_some, w32_b2i]
    by_cases c0 : (P (min C (n - 1)) false).length = m
    · rw [if_neg (by rw [b2i_0]; simpa using c0), gfr_e hS.1, hS.2.2.2.2.2.1, Option.bind_some, gfi_e hS.1, Option.bind_some, Option.bind_some, hS.2.2.2.2.2.2.2.1, csub1 (by omega), lar_n hS.2.2.2.2.2.2.1 (by decide) (by omega) (by decide), Option.bind_some, bkl.1, aeq_n, show w32 160 = 160 by decide, w32_nn (by omega), if_neg (show ¬ ((n : Int) < 160) by omega)]
      split <;> rfl
    · rw [if_pos (by rw [b2i_0]; simpa using c0)]
  | succ d ih =>
    intro n M ow bA B P Cn fl fu hd hfu h
    obtain ⟨f, rfl⟩ : ∃ f, fu = f + 1 := ⟨fu - 1, by omega⟩
    obtain ⟨⟨hu, hS, hO, hk, hB, hP, hCn, hF, hL, hN, hW, ht⟩, h1, h2, h3, h4, h5, h6⟩ := id h
    have hb := hB.1
    have bk := (hB.2.1 (min C (n - 1)) (by omega)).2.1
    have bkl := (hB.2.1 (n - 1) (by omega))
    have row : RowC M (B (min C (n - 1)) + 1) m (P (min C (n - 1)) false) := (hP (min C (n - 1)) false (by omega)).1
    by_cases c0 : (P (min C (n - 1)) false).length = m ∧ min C (n - 1) = n - 1
    · obtain ⟨M1, ow1, bA1, B1, P1, Cn1, fl1, s1, s2', s3, s4, s5, s6, s7, s8⟩ := tt_split h (by omega)
      have hB1 := s2'.1.2.2.2.2.1
      have hS1 := s2'.1.2.1
      have step : b_X20_see_72 (t : Int) (kx : Int) ad ((C : Nat) : Int) ((B (min C (n - 1)) : Nat) : Int) M = some (.inl (((B1 (min C (n + 1 - 1)) : Nat) : Int), M1)) := by
        have bf := c_bucketFor (cc := ((C : Nat) : Int)) hS1 hB1 s2'.2.1 (by omega)
        rw [Int.toNat_natCast] at bf
        unfold b_X20_see_72
        rw [gfr_e (by rw [bk.1]), bk.2.1, Option.bind_some, ck_e bk.2.2.2.1.1, c_isFull row, Option.bind_some, w32_b2i, if_neg (by rw [b2i_0]; simpa using c0.1), gfr_e hS.1, hS.2.2.2.2.2.1, Option.bind_some, gfi_e hS.1, Option.bind_some, Option.bind_some, hS.2.2.2.2.2.2.2.1, csub1 (by omega), lar_n hS.2.2.2.2.2.2.1 (by decide) (by omega) (by decide), Option.bind_some, bkl.1, aeq_n, if_pos (by rw [c0.2]), show w32 160 = 160 by decide, w32_nn (by omega), if_pos (by omega), ck_e hS.1, s1, Option.bind_some, ck_e hS1.1, bf, Option.bind_some]
        rfl
      rw [lpN_cnt (b := fun s : Int × MM => b_X20_see_72 (t : Int) (kx : Int) ad ((C : Nat) : Int) s.1 s.2) (s := (((B (min C (n - 1)) : Nat) : Int), M)) step]
      obtain ⟨M', ow', n', bA', B', P', Cn', fl', r1, r2, r3, r4, r5, r6, r7, r8, r9, r10, r11, r12⟩ := ih (n + 1) M1 ow1 bA1 B1 P1 Cn1 fl1 f (by omega) (by omega) s2'
      have ble : bA ≤ bA1 := by omega
      refine ⟨M', ow', n', bA', B', P', Cn', fl', r1, r2, r3, by omega, ?_, OwF.trans s7 s4 r6, fun i hi => by rw [r7 i (by omega), s5 i hi], fun i q1 q2 => ?_, by omega, ?_, fun z hz => ?_, by omega⟩
      · rcases s3 with w | w
        · rw [w.1, w.2.2] at r5; exact r5
        · rw [w.2.1, w.2.2.2] at r5
          rw [Nat.mul_add] at r5
          omega
      · by_cases q3 : i < bA1
        · rw [r7 i q3]; exact s6 i q1 q3
        · have := r8 i (by omega) q2
          have := s7.1
          omega
      · refine ⟨Nat.le_trans s7.1 r10.1, fun q => r10.2.1 (s7.2.1 q), fun z hz => by rw [r10.kd (Nat.lt_of_lt_of_le hz s7.1), s7.kd hz], fun z hz hA => ?_⟩
        have t1 := s7.2.2.2 z hz hA
        have t2 := r10.2.2.2 z (Nat.lt_of_lt_of_le hz s7.1) (fun q => hA (by
          rcases q with e | e | ⟨i, hi, e1, e2⟩
          · exact Or.inl e
          · exact Or.inr (Or.inl e)
          · by_cases q3 : i < bA
            · rw [s5 i q3] at e1 e2
              exact Or.inr (Or.inr ⟨i, q3, e1, e2⟩)
            · have := s6 i (by omega) hi
              omega))
        exact ⟨fun i => (t2.1 i).trans (t1.1 i), fun i => (t2.2 i).trans (t1.2 i)⟩
      · obtain ⟨w1, w2, w3⟩ := s8 z hz
        obtain ⟨w4, w5, w6⟩ := r11 z w1
        exact ⟨w4, by rw [w5, w2], by rw [w6, w3]⟩
    · refine ⟨M, ow, n, bA, B, P, Cn, fl, ?_, h, fun q => c0 ⟨q.1, q.2.1⟩, rfl, rfl, OwF.refl, fun i _ => rfl, fun i q1 q2 => by omega, Nat.le_refl _, ExA.refl, fun z hz => ⟨hz, rfl, rfl⟩, Nat.le_refl _⟩
      refine lpN_xit (b := fun s : Int × MM => b_X20_see_72 (t : Int) (kx : Int) ad ((C : Nat) : Int) s.1 s.2) ?_
      dsimp only
      unfold b_X20_see_72
      rw [gfr_e (by rw [bk.1]), bk.2.1, Option.bind_some, ck_e bk.2.2.2.1.1, c_isFull row, Option.bind_some, w32_b2i]
      by_cases c1 : (P (min C (n - 1)) false).length = m
      · rw [if_neg (by rw [b2i_0]; simpa using c1), gfr_e hS.1, hS.2.2.2.2.2.1, Option.bind_some, gfi_e hS.1, Option.bind_some, Option.bind_some, hS.2.2.2.2.2.2.2.1, csub1 (by omega), lar_n hS.2.2.2.2.2.2.1 (by decide) (by omega) (by decide), Option.bind_some, bkl.1, aeq_n, if_neg (fun q => c0 ⟨c1, hB.2.2.1 _ _ (by omega) (by omega) q⟩)]
      · rw [if_pos (by rw [b2i_0]; simpa using c1)]
end CSEEL
