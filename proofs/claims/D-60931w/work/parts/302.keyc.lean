/-! keys: five words; what both programs compute of them -/
abbrev KF : Type := Nat → Int
def kq (x y : KF) : Prop := x 0 = y 0 ∧ x 1 = y 1 ∧ x 2 = y 2 ∧ x 3 = y 3 ∧ x 4 = y 4
/-- distance as one number -/
def kdst (x t : KF) : Nat := u32 (bxor (x 0) (t 0)) * 340282366920938463463374607431768211456 + u32 (bxor (x 1) (t 1)) * 79228162514264337593543950336 + u32 (bxor (x 2) (t 2)) * 18446744073709551616 + u32 (bxor (x 3) (t 3)) * 4294967296 + u32 (bxor (x 4) (t 4))
def kval (x : KF) : Nat := u32 (x 0) * 340282366920938463463374607431768211456 + u32 (x 1) * 79228162514264337593543950336 + u32 (x 2) * 18446744073709551616 + u32 (x 3) * 4294967296 + u32 (x 4)
/-- how many leading bits are alike -/
def kcom (x y : KF) : Int :=
  if bxor (x 0) (y 0) = 0 then if bxor (x 1) (y 1) = 0 then if bxor (x 2) (y 2) = 0 then if bxor (x 3) (y 3) = 0 then if bxor (x 4) (y 4) = 0 then 160
    else 128 + nlz (bxor (x 4) (y 4)) else 96 + nlz (bxor (x 3) (y 3)) else 64 + nlz (bxor (x 2) (y 2)) else 32 + nlz (bxor (x 1) (y 1)) else 0 + nlz (bxor (x 0) (y 0))
/-- all five words are ints -/
def kok (x : KF) : Prop := ∀ i, i < 5 → w32 (x i) = x i
theorem nlz_ne {z : Int} (h : z ≠ 0) (hz : w32 z = z) : nlz z ≤ 31 := by
  refine nlz_lt (fun q => h ?_)
  rw [← hz, w32_u32, q]; rfl
theorem kcom_lo (x y : KF) : 0 ≤ kcom x y := by
  have := nlz_lo (bxor (x 0) (y 0)); have := nlz_lo (bxor (x 1) (y 1)); have := nlz_lo (bxor (x 2) (y 2)); have := nlz_lo (bxor (x 3) (y 3)); have := nlz_lo (bxor (x 4) (y 4))
  unfold kcom
  split <;> (try split) <;> (try split) <;> (try split) <;> (try split) <;> omega
theorem kcom_hi (x y : KF) : kcom x y ≤ 160 := by
  have := nlz_hi (bxor (x 0) (y 0)); have := nlz_hi (bxor (x 1) (y 1)); have := nlz_hi (bxor (x 2) (y 2)); have := nlz_hi (bxor (x 3) (y 3)); have := nlz_hi (bxor (x 4) (y 4))
  unfold kcom
  split <;> (try split) <;> (try split) <;> (try split) <;> (try split) <;> omega
theorem kcom_160 {x y : KF} (hx : kok x) (hy : kok y) : kcom x y = 160 ↔ kq x y := by
  have e : ∀ i, i < 5 → (bxor (x i) (y i) = 0 ↔ x i = y i) := fun i hi => by rw [bxor_eq0, hx i hi, hy i hi]
  have n : ∀ i, ¬ bxor (x i) (y i) = 0 → nlz (bxor (x i) (y i)) ≤ 31 := fun i h => nlz_ne h (w32_bxor _ _)
  unfold kcom kq
  rw [← e 0 (by omega), ← e 1 (by omega), ← e 2 (by omega), ← e 3 (by omega), ← e 4 (by omega)]
  by_cases h0 : bxor (x 0) (y 0) = 0
  · by_cases h1 : bxor (x 1) (y 1) = 0
    · by_cases h2 : bxor (x 2) (y 2) = 0
      · by_cases h3 : bxor (x 3) (y 3) = 0
        · by_cases h4 : bxor (x 4) (y 4) = 0
          · simp [h0, h1, h2, h3, h4]
          · have := n 4 h4; simp [h0, h1, h2, h3, h4]; omega
        · have := n 3 h3; simp [h0, h1, h2, h3]; omega
      · have := n 2 h2; simp [h0, h1, h2]; omega
    · have := n 1 h1; simp [h0, h1]; omega
  · have := n 0 h0; simp [h0]; omega
theorem kdst_eq {x y t : KF} : kdst x t = kdst y t ↔ u32 (x 0) = u32 (y 0) ∧ u32 (x 1) = u32 (y 1) ∧ u32 (x 2) = u32 (y 2) ∧ u32 (x 3) = u32 (y 3) ∧ u32 (x 4) = u32 (y 4) := by
  have e : ∀ i, u32 (bxor (x i) (t i)) = u32 (bxor (y i) (t i)) ↔ u32 (x i) = u32 (y i) := by
    intro i
    rw [u32_bxor, u32_bxor]
    constructor
    · intro h
      have := congrArg (· ^^^ u32 (t i)) h
      simpa [Nat.xor_assoc] using this
    · intro h; rw [h]
  rw [← e 0, ← e 1, ← e 2, ← e 3, ← e 4]
  unfold kdst
  have a0 := u32_lt (bxor (x 0) (t 0)); have a1 := u32_lt (bxor (x 1) (t 1)); have a2 := u32_lt (bxor (x 2) (t 2)); have a3 := u32_lt (bxor (x 3) (t 3)); have a4 := u32_lt (bxor (x 4) (t 4))
  have b0 := u32_lt (bxor (y 0) (t 0)); have b1 := u32_lt (bxor (y 1) (t 1)); have b2 := u32_lt (bxor (y 2) (t 2)); have b3 := u32_lt (bxor (y 3) (t 3)); have b4 := u32_lt (bxor (y 4) (t 4))
  omega
/-- a search over five places, as a loop -/
def srch {β : Type} (c : Nat → Bool) (x : Nat → β) (y : β) : Nat → Nat → β
  | 0, _ => y
  | k + 1, i => if c i = true then srch c x y k (i + 1) else x i
theorem lp_srch {σ ρ : Type} {b : σ → Option (σ ⊕ ρ)} (st : Nat → σ) (c : Nat → Bool) (x : Nat → Option ρ) (y : Option ρ) (m : Nat) (hb : ∀ j, j < m → b (st j) = if c j = true then cnt (st (j + 1)) else xit (x j)) (hm : b (st m) = xit y) : ∀ n i, i ≤ m → m - i < n → lpN b n (st i) = srch c x y (m - i) i
  | 0, i, _, h => by omega
  | n + 1, i, h1, h2 => by
    by_cases hi : i = m
    · subst hi
      rw [Nat.sub_self]
      exact lpN_xit hm
    · rw [show m - i = (m - (i + 1)) + 1 by omega]
      have h := hb i (by omega)
      unfold srch
      by_cases hc : c i = true
      · rw [if_pos hc] at h ⊢
        rw [lpN_cnt h]
        exact lp_srch st c x y m hb hm n (i + 1) (by omega) (by omega)
      · rw [if_neg hc] at h ⊢
        exact lpN_xit h
/-- a Key object of the class -/
def isK (M : MM) (a : Nat) : Prop := (kd M a).1 = 3 ∧ rR M a 0 = ((a + 1 : Nat) : Int) ∧ kd M (a + 1) = (64, 5)
def kC (M : MM) (a : Nat) : KF := fun i => rI M (a + 1) i
theorem kC_ok (M : MM) (a : Nat) : kok (kC M a) := fun _ _ => w32_rI
theorem isK_gf {M : MM} {a : Nat} (h : isK M a) : gfr 3 0 (a : Int) M = some ((a + 1 : Nat) : Int) := by
  rw [gfr_e h.1, h.2.1]
theorem isK_la {M : MM} {a j : Nat} {i : Int} (h : isK M a) (hi : w32 i = (j : Int)) (hj : j < 5) : lai ((a + 1 : Nat) : Int) i M = some (kC M a j) := lai_e h.2.2 (by decide) (by decide) hi hj
theorem w32_5 : w32 5 = 5 := by decide
theorem w32_160 : w32 160 = 160 := by decide
theorem w32_j {j : Nat} (h : j < 1000) : w32 (j : Int) = (j : Int) := w32_id (by omega) (by omega)
theorem e_X3_common {M : MM} {a b : Nat} (ha : isK M a) (hb : isK M b) : f_X3_common (a : Int) (b : Int) M = some (kcom (kC M a) (kC M b)) := by
  have hB : ∀ j, j < 5 → b_X3_common_2 (a : Int) (b : Int) ((j : Nat) : Int) M = if decide (bxor (kC M a j) (kC M b j) = 0) = true then cnt (((j + 1 : Nat)) : Int) else xit (some (32 * (j : Int) + nlz (bxor (kC M a j) (kC M b j)))) := by
    intro j hj
    have hw := w32_j (j := j) (by omega)
    unfold b_X3_common_2 j_X3_common_25
    simp only [isK_gf ha, isK_gf hb, isK_la ha hw hj, isK_la hb hw hj, Option.bind_some, w32_bxor, e_nlz, w32_5, hw, decide_eq_true_eq]
    rw [if_pos (by omega)]
    rfl
  have hE : b_X3_common_2 (a : Int) (b : Int) ((5 : Nat) : Int) M = xit (some 160) := by
    unfold b_X3_common_2
    rw [if_neg (by decide)]
  unfold f_X3_common l_X3_common_2
  have := lp_srch (b := fun s : Int => b_X3_common_2 (a : Int) (b : Int) s M) (fun j : Nat => (j : Int)) (fun j => decide (bxor (kC M a j) (kC M b j) = 0)) (fun j => some (32 * (j : Int) + nlz (bxor (kC M a j) (kC M b j)))) (some 160) 5 hB hE FU 0 (by decide) (by decide)
  refine Eq.trans this ?_
  unfold kcom
  simp only [srch, decide_eq_true_eq]
  by_cases h0 : bxor (kC M a 0) (kC M b 0) = 0
  · by_cases h1 : bxor (kC M a 1) (kC M b 1) = 0
    · by_cases h2 : bxor (kC M a 2) (kC M b 2) = 0
      · by_cases h3 : bxor (kC M a 3) (kC M b 3) = 0
        · by_cases h4 : bxor (kC M a 4) (kC M b 4) = 0
          · simp [h0, h1, h2, h3, h4]
          · simp [h0, h1, h2, h3, h4]
        · simp [h0, h1, h2, h3]
      · simp [h0, h1, h2]
    · simp [h0, h1]
  · simp [h0]
