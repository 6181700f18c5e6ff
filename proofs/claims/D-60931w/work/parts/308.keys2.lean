/-! keys: nearer, compare, set; the reference's same, put, nearer, common, below -/
theorem u32_neg {z : Int} : w32 z < 0 ↔ 2147483648 ≤ u32 z := by
  have h := w32_u32 z
  have h2 := u32_lt z
  rw [h]; split <;> omega
theorem near_word {x y t : Int} (h : bxor x y ≠ 0) {n : Nat} (hn : nlz (bxor x y) = (n : Int)) : w32 (bshl (bxor x t) (n : Int)) < 0 ↔ ¬ u32 (bxor x t) < u32 (bxor y t) := by
  have hz : u32 (bxor x y) ≠ 0 := fun q => h (by rw [← w32_bxor, w32_u32, q]; rfl)
  have hl := log2_lt32 hz
  have hn2 : n + Nat.log2 (u32 (bxor x y)) = 31 := by
    unfold nlz at hn
    rw [if_neg hz] at hn
    omega
  have hx : u32 (bxor x t) ^^^ u32 (bxor y t) = u32 (bxor x y) := by
    rw [u32_bxor, u32_bxor, u32_bxor]
    apply Nat.eq_of_testBit_eq
    intro i
    simp only [Nat.testBit_xor]
    cases (u32 x).testBit i <;> cases (u32 y).testBit i <;> cases (u32 t).testBit i <;> rfl
  have hne : u32 (bxor x t) ≠ u32 (bxor y t) := fun q => hz (by rw [← hx, q, Nat.xor_self])
  have hlt := nat_xor_lt hne
  rw [hx] at hlt
  rw [u32_neg, u32_bshl _ (by omega), hlt]
  generalize u32 (bxor x t) = a at *
  have hp : Nat.log2 (u32 (bxor x y)) = 31 - n := by omega
  rw [hp]
  have t31 : ((a <<< n) % 4294967296).testBit 31 = a.testBit (31 - n) := by
    rw [show (4294967296 : Nat) = 2 ^ 32 from rfl, Nat.testBit_mod_two_pow, Nat.testBit_shiftLeft]
    simp; omega
  have hm : (a <<< n) % 4294967296 < 4294967296 := Nat.mod_lt _ (by decide)
  have td : ((a <<< n) % 4294967296).testBit 31 = decide (((a <<< n) % 4294967296) / 2 ^ 31 % 2 = 1) := Nat.testBit_eq_decide_div_mod_eq
  rw [← t31, td]
  generalize (a <<< n) % 4294967296 = m at *
  by_cases hc : 2147483648 ≤ m
  · have : m / 2 ^ 31 % 2 = 1 := by omega
    simp [this, hc]
  · have : ¬ m / 2 ^ 31 % 2 = 1 := by omega
    simp [this, hc]
theorem bx_same {x y t : Int} (h : bxor x y = 0) : u32 (bxor x t) = u32 (bxor y t) := by
  rw [u32_bxor, u32_bxor, u32_inj.mpr (bxor_eq0.mp h)]
theorem bx_ne {x y t : Int} (h : bxor x y ≠ 0) : u32 (bxor x t) ≠ u32 (bxor y t) := by
  intro q
  apply h
  rw [bxor_eq0, ← u32_inj]
  rw [u32_bxor, u32_bxor] at q
  have := congrArg (· ^^^ u32 t) q
  simpa [Nat.xor_assoc] using this
theorem e_n44 {M : MM} : j_X3_isNearer_44 M = some 0 := by
  unfold j_X3_isNearer_44 j_X3_isNearer_45
  exact bz_e (Or.inl rfl)
theorem e_n45 {M : MM} : j_X3_isNearer_45 1 M = some 1 := by
  unfold j_X3_isNearer_45
  exact bz_e (Or.inr rfl)
theorem dv32 {z : Int} {i n : Nat} (hn : n < 32) (hz : w32 z = ((32 * i + n : Nat) : Int)) : dvi z 32 = some ((i : Nat) : Int) := by
  have h := dvi_e (q := 32) hz (show w32 32 = ((32 : Nat) : Int) by decide) (by decide)
  have e : (32 * i + n) / 32 = i := by omega
  rw [e] at h
  exact h
theorem rm32 {z : Int} {i n : Nat} (hn : n < 32) (hz : w32 z = ((32 * i + n : Nat) : Int)) : rmi z 32 = some ((n : Nat) : Int) := by
  have h := rmi_e (q := 32) hz (show w32 32 = ((32 : Nat) : Int) by decide) (by decide)
  have e : (32 * i + n) % 32 = n := by omega
  rw [e] at h
  exact h
theorem e_near_case {M : MM} {a b c i n : Nat} (ha : isK M a) (hb : isK M b) (hc : isK M c) (hi : i < 5) (hn : n < 32) (hcom : kcom (kC M a) (kC M b) = 32 * (i : Int) + (n : Int)) :
    f_X3_isNearer (a : Int) (b : Int) (c : Int) M = some (if w32 (bshl (bxor (kC M a i) (kC M c i)) (n : Int)) < 0 then 0 else 1) := by
  have hw : w32 (kcom (kC M a) (kC M b)) = ((32 * i + n : Nat) : Int) := by rw [hcom, w32_id (by omega) (by omega)]; omega
  have h1 := dv32 hn hw
  have h2 := rm32 hn hw
  have hwi := w32_j (j := i) (by omega)
  have hlt : w32 (kcom (kC M a) (kC M b)) < w32 160 := by rw [hw, w32_160]; omega
  unfold f_X3_isNearer
  rw [ck_e ha.1, e_X3_common ha hb, Option.bind_some, if_pos hlt, isK_gf ha, Option.bind_some, h1, Option.bind_some, isK_la ha hwi hi, Option.bind_some, isK_gf hc, Option.bind_some, Option.bind_some, isK_la hc hwi hi, Option.bind_some, h2, Option.bind_some]
  split
  · exact e_n44
  · exact e_n45
theorem e_X3_isNearer {M : MM} {a b c : Nat} (ha : isK M a) (hb : isK M b) (hc : isK M c) : f_X3_isNearer (a : Int) (b : Int) (c : Int) M = some (if kdst (kC M a) (kC M c) < kdst (kC M b) (kC M c) then 1 else 0) := by
  let x := kC M a
  let y := kC M b
  let t := kC M c
  have nz : ∀ i, ∃ n : Nat, nlz (bxor (x i) (y i)) = (n : Int) ∧ (bxor (x i) (y i) ≠ 0 → n < 32) := by
    intro i
    have h0 := nlz_lo (bxor (x i) (y i))
    refine ⟨(nlz (bxor (x i) (y i))).toNat, by omega, fun h => ?_⟩
    have := nlz_ne h (w32_bxor _ _)
    omega
  have a0 := u32_lt (bxor (x 0) (t 0)); have a1 := u32_lt (bxor (x 1) (t 1)); have a2 := u32_lt (bxor (x 2) (t 2)); have a3 := u32_lt (bxor (x 3) (t 3)); have a4 := u32_lt (bxor (x 4) (t 4))
  have b0 := u32_lt (bxor (y 0) (t 0)); have b1 := u32_lt (bxor (y 1) (t 1)); have b2 := u32_lt (bxor (y 2) (t 2)); have b3 := u32_lt (bxor (y 3) (t 3)); have b4 := u32_lt (bxor (y 4) (t 4))
  have fin : ∀ i, i < 5 → bxor (x i) (y i) ≠ 0 → (∀ n : Nat, nlz (bxor (x i) (y i)) = (n : Int) → kcom x y = 32 * (i : Int) + (n : Int)) → (u32 (bxor (x i) (t i)) < u32 (bxor (y i) (t i)) ↔ kdst x t < kdst y t) → f_X3_isNearer (a : Int) (b : Int) (c : Int) M = some (if kdst x t < kdst y t then 1 else 0) := by
    intro i hi hne hco hd
    obtain ⟨n, hn, hn32⟩ := nz i
    rw [e_near_case ha hb hc hi (hn32 hne) (hco n hn)]
    have hw := near_word (t := t i) hne hn
    congr 1
    by_cases hq : kdst x t < kdst y t
    · rw [if_pos hq, if_neg (fun q => (hw.mp q) (hd.mpr hq))]
    · rw [if_neg hq, if_pos (hw.mpr (fun q => hq (hd.mp q)))]
  by_cases h0 : bxor (x 0) (y 0) = 0
  · have q0 := bx_same (t := t 0) h0
    by_cases h1 : bxor (x 1) (y 1) = 0
    · have q1 := bx_same (t := t 1) h1
      by_cases h2 : bxor (x 2) (y 2) = 0
      · have q2 := bx_same (t := t 2) h2
        by_cases h3 : bxor (x 3) (y 3) = 0
        · have q3 := bx_same (t := t 3) h3
          by_cases h4 : bxor (x 4) (y 4) = 0
          · have q4 := bx_same (t := t 4) h4
            have hco : kcom x y = 160 := by unfold kcom; simp [h0, h1, h2, h3, h4]
            unfold f_X3_isNearer
            have hco' : kcom (kC M a) (kC M b) = 160 := hco
            simp only [ck_e ha.1, e_X3_common ha hb, Option.bind_some, hco', w32_160, if_neg (show ¬ (160 : Int) < 160 by decide)]
            have : ¬ kdst (kC M a) (kC M c) < kdst (kC M b) (kC M c) := by show ¬ kdst x t < kdst y t; unfold kdst; omega
            rw [if_neg this]
            rfl
          · exact fin 4 (by omega) h4 (fun n hn => by unfold kcom; simp [h0, h1, h2, h3, h4, hn]) (by have hne := bx_ne (t := t 4) h4; unfold kdst; omega)
        · exact fin 3 (by omega) h3 (fun n hn => by unfold kcom; simp [h0, h1, h2, h3, hn]) (by have hne := bx_ne (t := t 3) h3; unfold kdst; omega)
      · exact fin 2 (by omega) h2 (fun n hn => by unfold kcom; simp [h0, h1, h2, hn]) (by have hne := bx_ne (t := t 2) h2; unfold kdst; omega)
    · exact fin 1 (by omega) h1 (fun n hn => by unfold kcom; simp [h0, h1, hn]) (by have hne := bx_ne (t := t 1) h1; unfold kdst; omega)
  · exact fin 0 (by omega) h0 (fun n hn => by unfold kcom; simp [h0, hn]) (by have hne := bx_ne (t := t 0) h0; unfold kdst; omega)
theorem e_X3_is {M : MM} {a b : Nat} (ha : isK M a) (hb : isK M b) : f_X3_is (a : Int) (b : Int) M = some (if kcom (kC M a) (kC M b) = 160 then 1 else 0) := by
  have hl := kcom_lo (kC M a) (kC M b)
  have hh := kcom_hi (kC M a) (kC M b)
  unfold f_X3_is j_X3_is_16
  simp only [ck_e ha.1, e_X3_common ha hb, Option.bind_some, w32_160, w32_id (show -2147483648 ≤ kcom (kC M a) (kC M b) by omega) (show kcom (kC M a) (kC M b) ≤ 2147483647 by omega)]
  split <;> rfl
/-- the numbers of two keys compared -/
def kcmp (x y : KF) : Int := if kval x < kval y then -1 else if kval x = kval y then 0 else 1
theorem e_X3_compare {M : MM} {a b : Nat} (ha : isK M a) (hb : isK M b) : f_X3_compare (a : Int) (b : Int) M = some (kcmp (kC M a) (kC M b)) := by
  let x := kC M a
  let y := kC M b
  have eqi : ∀ j, (w32 (x j) = w32 (y j)) ↔ u32 (x j) = u32 (y j) := fun j => u32_inj.symm
  have hB : ∀ j, j < 5 → b_X3_compare_2 (a : Int) (b : Int) ((j : Nat) : Int) M = if decide (u32 (x j) = u32 (y j)) = true then cnt (((j + 1 : Nat)) : Int) else xit (some (ucmp (x j) (y j))) := by
    intro j hj
    have hw := w32_j (j := j) (by omega)
    unfold b_X3_compare_2 j_X3_compare_22
    simp only [isK_gf ha, isK_gf hb, isK_la ha hw hj, isK_la hb hw hj, Option.bind_some, e_cmpU, w32_5, hw, decide_eq_true_eq, if_pos (show (j : Int) < 5 by omega)]
    have := eqi j
    by_cases hq : u32 (x j) = u32 (y j)
    · rw [if_pos hq, if_pos (this.mpr hq)]; rfl
    · rw [if_neg hq, if_neg (fun q => hq (this.mp q))]
  have hE : b_X3_compare_2 (a : Int) (b : Int) ((5 : Nat) : Int) M = xit (some 0) := by
    unfold b_X3_compare_2
    rw [if_neg (by decide)]
  unfold f_X3_compare l_X3_compare_2
  refine Eq.trans (lp_srch (b := fun s : Int => b_X3_compare_2 (a : Int) (b : Int) s M) (fun j : Nat => (j : Int)) (fun j => decide (u32 (x j) = u32 (y j))) (fun j => some (ucmp (x j) (y j))) (some 0) 5 hB hE FU 0 (by decide) (by decide)) ?_
  simp only [srch, decide_eq_true_eq, Nat.zero_add, Nat.reduceAdd]
  have a0 := u32_lt (x 0); have a1 := u32_lt (x 1); have a2 := u32_lt (x 2); have a3 := u32_lt (x 3); have a4 := u32_lt (x 4)
  have b0 := u32_lt (y 0); have b1 := u32_lt (y 1); have b2 := u32_lt (y 2); have b3 := u32_lt (y 3); have b4 := u32_lt (y 4)
  show _ = some (kcmp x y)
  have fin : ∀ u v U W : Nat, u ≠ v → (u < v → U < W) → (v < u → W < U) → (if u < v then (-1 : Int) else if u = v then 0 else 1) = (if U < W then -1 else if U = W then 0 else 1) := by
    intro u v U W hne h1 h2
    rcases Nat.lt_or_gt_of_ne hne with h | h
    · rw [if_pos h, if_pos (h1 h)]
    · have := h2 h
      rw [if_neg (by omega), if_neg hne, if_neg (by omega), if_neg (by omega)]
  unfold kcmp kval ucmp
  by_cases h0 : u32 (x 0) = u32 (y 0)
  · by_cases h1 : u32 (x 1) = u32 (y 1)
    · by_cases h2 : u32 (x 2) = u32 (y 2)
      · by_cases h3 : u32 (x 3) = u32 (y 3)
        · by_cases h4 : u32 (x 4) = u32 (y 4)
          · rw [if_pos h0, if_pos h1, if_pos h2, if_pos h3, if_pos h4, if_neg (by omega), if_pos (by omega)]
          · rw [if_pos h0, if_pos h1, if_pos h2, if_pos h3, if_neg h4]
            exact congrArg some (fin _ _ _ _ h4 (fun _ => by omega) (fun _ => by omega))
        · rw [if_pos h0, if_pos h1, if_pos h2, if_neg h3]
          exact congrArg some (fin _ _ _ _ h3 (fun _ => by omega) (fun _ => by omega))
      · rw [if_pos h0, if_pos h1, if_neg h2]
        exact congrArg some (fin _ _ _ _ h2 (fun _ => by omega) (fun _ => by omega))
    · rw [if_pos h0, if_neg h1]
      exact congrArg some (fin _ _ _ _ h1 (fun _ => by omega) (fun _ => by omega))
  · rw [if_neg h0]
    exact congrArg some (fin _ _ _ _ h0 (fun _ => by omega) (fun _ => by omega))
/-- Key.set -/
theorem e_X3_set {M : MM} {a b : Nat} (ha : isK M a) (hb : isK M b) : ∃ M', f_X3_set (a : Int) (b : Int) M = some M' ∧ (∀ i, i < 5 → kC M' a i = kC M b i) ∧ Ex (fun q => q = a + 1) M M' := by
  obtain ⟨⟨x7, W7⟩, n7, hn7, hI7, q7⟩ := lp_inv (b := fun s : Int × MM => b_X3_set_2 (a : Int) (b : Int) s.1 s.2) (fun t s => s.1 = (t : Int) ∧ (∀ j, j < t → kC s.2 a j = kC M b j) ∧ (∀ j, t ≤ j → kC s.2 b j = kC M b j) ∧ Ex (fun q => q = a + 1) M s.2) 5
    (fun t s ht hs => by
      obtain ⟨z, U⟩ := s
      obtain ⟨rfl, h2, h2', h3⟩ := hs
      simp only at h2 h2' h3
      have k1 : isK U a := ⟨by rw [h3.kd]; exact ha.1, by rw [h3.rR]; exact ha.2.1, by rw [h3.kd]; exact ha.2.2⟩
      have k2 : isK U b := ⟨by rw [h3.kd]; exact hb.1, by rw [h3.rR]; exact hb.2.1, by rw [h3.kd]; exact hb.2.2⟩
      have hw := w32_j (j := t) (by omega)
      refine ⟨(((t + 1 : Nat) : Int), sI U (a + 1) t (kC U b t)), ?_, rfl, ?_, ?_, h3.trans (Ex.st rfl)⟩
      · show b_X3_set_2 _ _ _ _ = _
        unfold b_X3_set_2
        simp only [hw, w32_5, if_pos (show (t : Int) < 5 by omega), isK_gf k1, isK_gf k2, isK_la k2 hw ht, Option.bind_some, sai_e k1.2.2 (by decide) (by decide) hw ht]
        rfl
      · intro j hj
        show rI (sI U (a + 1) t (kC U b t)) (a + 1) j = _
        rw [rI_sI]
        by_cases hjt : j = t
        · rw [if_pos ⟨rfl, hjt⟩, hjt]
          show w32 (rI U (b + 1) t) = _
          rw [w32_rI]
          exact h2' t (Nat.le_refl t)
        · rw [if_neg (fun q => hjt q.2)]; exact h2 j (by omega)
      · intro j hj
        show rI (sI U (a + 1) t (kC U b t)) (b + 1) j = _
        rw [rI_sI, if_neg (fun q => by omega)]
        exact h2' j (by omega)) FU 0 (0, M) (by decide) (by decide) ⟨rfl, fun j hj => by omega, fun j _ => rfl, Ex.refl⟩
  obtain ⟨rfl, hh7, -, hx7⟩ := hI7
  refine ⟨W7, ?_, hh7, hx7⟩
  unfold f_X3_set l_X3_set_2
  refine Eq.trans q7 ?_
  refine lpN_end hn7 ?_
  show b_X3_set_2 _ _ ((5 : Nat) : Int) W7 = _
  unfold b_X3_set_2
  rw [if_neg (by decide)]
