theorem by_sh (v : Int) {j : Nat} (hj : j < 4) : band (bshr v ((8 * j : Nat) : Int)) 255 = bush v ((8 * j : Nat) : Int) % 256 := by
  have e1 := u32_bush v (n := 8 * j) (by omega)
  have e2 := u32_emod (bush v ((8 * j : Nat) : Int))
  have e3 := u32_emod (w32 v)
  rw [u32_w32] at e3
  rw [band255, bshr_n (by omega), Int.shiftRight_eq_div_pow]
  rw [Nat.shiftRight_eq_div_pow] at e1
  rw [e1] at e2
  generalize bush v ((8 * j : Nat) : Int) = b at *
  generalize w32 v = w at *
  generalize u32 v = u at *
  have : j = 0 ∨ j = 1 ∨ j = 2 ∨ j = 3 := by omega
  rcases this with rfl | rfl | rfl | rfl <;> simp only [Nat.reduceMul, Nat.reducePow, Int.reducePow] at e2 ⊢ <;> omega
theorem by_rg (v n : Int) : 0 ≤ bush v n % 256 ∧ bush v n % 256 < 256 := by omega
theorem kby_get (x : KF) : ∀ k, k < 20 → (kby x)[k]? = some (bush (x (k / 4)) ((8 * (3 - k % 4) : Nat) : Int) % 256) := by
  intro k hk
  have e : kby x = be (x 0) 4 ++ be (x 1) 4 ++ be (x 2) 4 ++ be (x 3) 4 ++ be (x 4) 4 := by
    simp [kby, kbN]
  rw [e]
  simp only [be]
  have : k = 0 ∨ k = 1 ∨ k = 2 ∨ k = 3 ∨ k = 4 ∨ k = 5 ∨ k = 6 ∨ k = 7 ∨ k = 8 ∨ k = 9 ∨ k = 10 ∨ k = 11 ∨ k = 12 ∨ k = 13 ∨ k = 14 ∨ k = 15 ∨ k = 16 ∨ k = 17 ∨ k = 18 ∨ k = 19 := by omega
  rcases this with rfl | rfl | rfl | rfl | rfl | rfl | rfl | rfl | rfl | rfl | rfl | rfl | rfl | rfl | rfl | rfl | rfl | rfl | rfl | rfl <;> rfl
theorem kby_tk (x : KF) {k : Nat} (hk : k < 20) : (kby x).take (k + 1) = (kby x).take k ++ [bush (x (k / 4)) ((8 * (3 - k % 4) : Nat) : Int) % 256] := by
  rw [List.take_succ, kby_get x k hk]; rfl
theorem v_keyOut {V : VV} {e n p : Nat} {l : List Int} (h : mA e n) (hne : e ≠ 188) (hp : p + 5 ≤ n) (hn : n ≤ 1000000) (ho : OutV V l) (hl : l.length + 20 ≤ 460) : ∃ V', f_X16_keyOut (e : Int) (p : Int) V = some V' ∧ OutV V' (l ++ kby (kV V e p)) ∧ FrV m9 V V' ∧ ExV (fun a => a = 188 ∨ a = 156) V V' := by
  have w20 : w32 20 = 20 := by decide
  obtain ⟨⟨z, W⟩, n2, hn2, hI2, q2⟩ := lp_inv (b := fun s : Int × VV => b_X16_keyOut_2 (e : Int) (p : Int) s.1 s.2) (fun k s => s.1 = (k : Int) ∧ OutV s.2 (l ++ (kby (kV V e p)).take k) ∧ FrV m9 V s.2 ∧ ExV (fun a => a = 188 ∨ a = 156) V s.2) 20
    (fun k s hk hs => by
      obtain ⟨z, U⟩ := s
      obtain ⟨rfl, g1, g2, g3⟩ := hs
      simp only at g1 g2 g3
      have hwk := w32_j (j := k) (by omega)
      have len : (l ++ (kby (kV V e p)).take k).length < 460 := by
        rw [List.length_append, List.length_take]; omega
      have e1 : lp (e : Int) ((p : Int) + ((k / 4 : Nat) : Int)) U = some (kV V e p (k / 4)) := by
        rw [lpK h hp hn (by omega)]
        show some (vI U e _) = some (vI V e _)
        rw [g3.vI (by have := h.1; omega)]
      have e2 : (24 : Int) - 8 * ((k % 4 : Nat) : Int) = ((8 * (3 - k % 4) : Nat) : Int) := by omega
      obtain ⟨U', r1, r2, r3, r4⟩ := v_byteOut g1 len (by_sh (kV V e p (k / 4)) (j := 3 - k % 4) (by omega)) (by_rg _ _)
      refine ⟨(((k + 1 : Nat) : Int), U'), ?_, rfl, ?_, g2.trans r3, g3.trans r4⟩
      · show b_X16_keyOut_2 _ _ _ _ = _
        unfold b_X16_keyOut_2
        rw [hwk, w20, if_pos (by omega), dvi_e (p := k) (q := 4) hwk (by decide) (by decide), Option.bind_some, e1, Option.bind_some, rmi_e (p := k) (q := 4) hwk (by decide) (by decide), Option.bind_some, e2, r1]
        rfl
      · show OutV U' _
        rw [kby_tk _ hk, ← List.append_assoc]; exact r2) FU 0 (0, V) (by omega) (by unfold FU; omega) ⟨rfl, by simpa using ho, FrV.refl, ExV.refl⟩
  obtain ⟨rfl, g1, g2, g3⟩ := hI2
  simp only at g1 g2 g3
  rw [List.take_of_length_le (by unfold kby; rw [kbN_len]; omega)] at g1
  refine ⟨W, ?_, g1, g2, g3⟩
  unfold f_X16_keyOut l_X16_keyOut_2
  refine Eq.trans q2 ?_
  refine lpN_end hn2 ?_
  show b_X16_keyOut_2 _ _ ((20 : Nat) : Int) W = _
  unfold b_X16_keyOut_2
  rw [if_neg (by decide)]
theorem lpN_go {σ ρ : Type} {b : σ → Option (σ ⊕ ρ)} {n m : Nat} {s s' : σ} (hn : n = m + 1) (h : b s = cnt s') : lpN b n s = lpN b m s' := by
  rw [hn]; exact lpN_cnt h
theorem hdB_eq (ty num : Int) (x : KF) : hdB ty num x = ((((([] ++ [bush ty ((8 * 0 : Nat) : Int) % 256]) ++ [bush num ((8 * 3 : Nat) : Int) % 256]) ++ [bush num ((8 * 2 : Nat) : Int) % 256]) ++ [bush num ((8 * 1 : Nat) : Int) % 256]) ++ [bush num ((8 * 0 : Nat) : Int) % 256]) ++ kby x := by
  unfold hdB
  simp only [be, List.nil_append, List.cons_append]
  rfl
theorem v_head {V : VV} {f : Nat} {ty num : Int} (hf : f < 32) : ∃ V', f_X16_head (f : Int) ty num V = some V' ∧ OutV V' (hdB ty num (kV V 165 (5 * f))) ∧ FrV m9 V V' ∧ ExV (fun a => a = 188 ∨ a = 156) V V' := by
  have o0 : OutV (st2 V 156 41 0) [] := ⟨by rw [vI_st2, if_pos ⟨rfl, rfl⟩]; decide, by decide, fun i hi => by simp at hi⟩
  have x0 : ExV (fun a => a = 188 ∨ a = 156) V (st2 V 156 41 0) := ExV.st (Or.inr rfl)
  have f0 : FrV m9 V (st2 V 156 41 0) := FrV_st (by rfl)
  obtain ⟨V1, a1, a2, a3, a4⟩ := v_byteOut (x := ty) o0 (by decide) (show band ty 255 = bush ty ((8 * 0 : Nat) : Int) % 256 from by
    have := by_sh ty (j := 0) (by decide)
    rw [← this, band255, band255, bshr_n (by decide), Int.shiftRight_eq_div_pow]
    have d1 := u32_emod ty
    have d2 := u32_emod (w32 ty)
    rw [u32_w32] at d2
    simp only [Nat.mul_zero, Nat.pow_zero]
    omega) (by_rg _ _)
  have sh : ∀ j : Nat, j < 4 → ∀ (U : VV) (l : List Int), OutV U l → l.length < 460 → ∃ U', b_X16_head_14 (f : Int) num ((8 * j : Nat) : Int) U = cnt (((8 * j : Nat) : Int) + (-8), U') ∧ OutV U' (l ++ [bush num ((8 * j : Nat) : Int) % 256]) ∧ FrV m9 U U' ∧ ExV (fun a => a = 188 ∨ a = 156) U U' := by
    intro j hj U l hU hl
    obtain ⟨U', r1, r2, r3, r4⟩ := v_byteOut hU hl (by_sh num hj) (by_rg _ _)
    refine ⟨U', ?_, r2, r3, r4⟩
    unfold b_X16_head_14
    rw [if_neg (by rw [w32_j (by omega)]; omega), r1]; rfl
  obtain ⟨V2, b1, b2, b3, b4⟩ := sh 3 (by decide) V1 _ a2 (by simp)
  obtain ⟨V3, c1, c2, c3, c4⟩ := sh 2 (by decide) V2 _ b2 (by simp)
  obtain ⟨V4, d1, d2, d3, d4⟩ := sh 1 (by decide) V3 _ c2 (by simp)
  obtain ⟨V5, e1, e2, e3, e4⟩ := sh 0 (by decide) V4 _ d2 (by simp)
  obtain ⟨V6, k1, k2, k3, k4⟩ := v_keyOut (e := 165) (n := 160) (p := 5 * f) ⟨by decide, by decide, by decide, by decide, by decide⟩ (by decide) (by omega) (by decide) e2 (by simp)
  have xx := ((((x0.trans a4).trans b4).trans c4).trans d4).trans e4
  have kk : kV V5 165 (5 * f) = kV V 165 (5 * f) := by
    funext i
    exact xx.vI (by decide) _
  refine ⟨V6, ?_, ?_, (((((f0.trans a3).trans b3).trans c3).trans d3).trans e3).trans k3, xx.trans k4⟩
  · unfold f_X16_head
    rw [p2_e, Option.bind_some, a1, Option.bind_some]
    unfold l_X16_head_14
    have F1 : FU = (FU - 1) + 1 := by unfold FU; omega
    have F2 : FU - 1 = (FU - 2) + 1 := by unfold FU; omega
    have F3 : FU - 2 = (FU - 3) + 1 := by unfold FU; omega
    have F4 : FU - 3 = (FU - 4) + 1 := by unfold FU; omega
    have F5 : 0 < FU - 4 := by unfold FU; omega
    refine (lpN_go (s' := (((8 * 2 : Nat) : Int), V2)) F1 b1).trans ?_
    refine (lpN_go (s' := (((8 * 1 : Nat) : Int), V3)) F2 c1).trans ?_
    refine (lpN_go (s' := (((8 * 0 : Nat) : Int), V4)) F3 d1).trans ?_
    refine (lpN_go (s' := ((-8 : Int), V5)) F4 e1).trans ?_
    refine lpN_end F5 ?_
    show b_X16_head_14 _ _ (-8) V5 = _
    unfold b_X16_head_14
    rw [if_pos (by decide)]
    unfold j_X16_head_33
    have : (5 : Int) * (f : Int) = ((5 * f : Nat) : Int) := by omega
    rw [this, show (165 : Int) = ((165 : Nat) : Int) from rfl, k1]; rfl
  · rw [hdB_eq, ← kk]; exact k2
