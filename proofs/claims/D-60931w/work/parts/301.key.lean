/-! bits of ints by their unsigned numbers -/
def u32 (z : Int) : Nat := (BitVec.ofInt 32 z).toNat
theorem u32_lt (z : Int) : u32 z < 4294967296 := (BitVec.ofInt 32 z).isLt
theorem u32_emod (z : Int) : (u32 z : Int) = z % 4294967296 := by
  unfold u32
  rw [BitVec.toNat_ofInt]
  have : 0 ≤ z % 4294967296 := Int.emod_nonneg _ (by decide)
  have e : ((2 ^ 32 : Nat) : Int) = 4294967296 := by decide
  rw [e]
  omega
theorem w32_u32 (z : Int) : w32 z = if u32 z < 2147483648 then (u32 z : Int) else (u32 z : Int) - 4294967296 := by
  have h : w32 z = (BitVec.ofInt 32 z).toInt := rfl
  rw [h, BitVec.toInt_eq_toNat_cond]
  show (if 2 * u32 z < 2 ^ 32 then (u32 z : Int) else (u32 z : Int) - ((2 ^ 32 : Nat) : Int)) = _
  have e : ((2 ^ 32 : Nat) : Int) = 4294967296 := by decide
  rw [e]
  by_cases hc : u32 z < 2147483648
  · rw [if_pos hc, if_pos (by omega)]
  · rw [if_neg hc, if_neg (by omega)]
theorem u32_inj {x y : Int} : u32 x = u32 y ↔ w32 x = w32 y := by
  have h1 := w32_u32 x
  have h2 := w32_u32 y
  have h3 := u32_lt x
  have h4 := u32_lt y
  constructor
  · intro h; rw [h1, h2, h]
  · intro h
    rw [h1, h2] at h
    split at h <;> split at h <;> omega
theorem u32_w32 (z : Int) : u32 (w32 z) = u32 z := u32_inj.mpr (w32_w32 z)
theorem ofInt_bv (z : Int) : (Int32.ofInt z).toBitVec = BitVec.ofInt 32 z := rfl
theorem u32_toInt (x : Int32) : u32 x.toInt = x.toBitVec.toNat := by
  have : BitVec.ofInt 32 x.toInt = x.toBitVec := by
    have := congrArg Int32.toBitVec (Int32.ofInt_toInt x)
    exact this
  unfold u32
  rw [this]
theorem u32_bxor (x y : Int) : u32 (bxor x y) = u32 x ^^^ u32 y := by
  unfold bxor
  rw [u32_toInt, Int32.toBitVec_xor, BitVec.toNat_xor]
  rfl
theorem u32_band (x y : Int) : u32 (band x y) = u32 x &&& u32 y := by
  unfold band
  rw [u32_toInt, Int32.toBitVec_and, BitVec.toNat_and]
  rfl
theorem u32_bor (x y : Int) : u32 (bor x y) = u32 x ||| u32 y := by
  unfold bor
  rw [u32_toInt, Int32.toBitVec_or, BitVec.toNat_or]
  rfl
theorem sh_l : ∀ n, n < 32 → ((Int32.ofInt (n : Nat) &&& 31).toBitVec.smod 32).toNat = n := by decide +kernel
theorem sh_u : ∀ n, n < 32 → (((Int32.ofInt (n : Nat)).toUInt32 &&& Int32.toUInt32 31).toBitVec % 32).toNat = n := by decide +kernel
theorem u32_bush (x : Int) {n : Nat} (hn : n < 32) : u32 (bush x n) = u32 x >>> n := by
  unfold bush
  rw [u32_toInt]
  show ((Int32.ofInt x).toUInt32 >>> ((Int32.ofInt (n : Int)).toUInt32 &&& Int32.toUInt32 31)).toBitVec.toNat = _
  rw [UInt32.toBitVec_shiftRight]
  show ((Int32.ofInt x).toUInt32.toBitVec >>> (((Int32.ofInt (n : Int)).toUInt32 &&& Int32.toUInt32 31).toBitVec % 32).toNat).toNat = _
  rw [sh_u n hn, BitVec.toNat_ushiftRight]
  rfl
theorem u32_bshl (x : Int) {n : Nat} (hn : n < 32) : u32 (bshl x n) = (u32 x <<< n) % 4294967296 := by
  unfold bshl
  rw [u32_toInt, Int32.toBitVec_shiftLeft]
  show ((Int32.ofInt x).toBitVec <<< ((Int32.ofInt (n : Int) &&& 31).toBitVec.smod 32).toNat).toNat = _
  rw [sh_l n hn, BitVec.toNat_shiftLeft]
  rfl
theorem nxor0 {a b : Nat} : a ^^^ b = 0 ↔ a = b := by
  constructor
  · intro h
    apply Nat.eq_of_testBit_eq
    intro i
    have := congrArg (fun n => n.testBit i) h
    simp only [Nat.testBit_xor, Nat.zero_testBit] at this
    cases ha : a.testBit i <;> cases hb : b.testBit i <;> simp [ha, hb] at this ⊢
  · intro h; rw [h, Nat.xor_self]
theorem w32_bxor (x y : Int) : w32 (bxor x y) = bxor x y := w32_toInt _
theorem bxor_eq0 {x y : Int} : bxor x y = 0 ↔ w32 x = w32 y := by
  rw [← u32_inj, ← w32_bxor]
  have : w32 (bxor x y) = 0 ↔ u32 (bxor x y) = 0 := by
    have h := w32_u32 (bxor x y)
    have h2 := u32_lt (bxor x y)
    rw [h]
    split <;> omega
  rw [this, u32_bxor]
  exact nxor0
/-! the highest bit in which two numbers differ decides -/
theorem nat_xor_lt {a b : Nat} (h : a ≠ b) : a < b ↔ a.testBit (a ^^^ b).log2 = false := by
  have hx : a ^^^ b ≠ 0 := fun q => h (nxor0.mp q)
  have hp := Nat.testBit_log2 hx
  generalize hpe : (a ^^^ b).log2 = p at hp ⊢
  have hup : ∀ i, p < i → a.testBit i = b.testBit i := by
    intro i hi
    have h1 : (a ^^^ b).testBit i = false := Nat.testBit_lt_two_pow (by
      have := Nat.lt_log2_self (n := a ^^^ b)
      rw [hpe] at this
      exact Nat.lt_of_lt_of_le this (Nat.pow_le_pow_right (by decide) hi))
    rw [Nat.testBit_xor] at h1
    cases ha : a.testBit i <;> cases hb : b.testBit i <;> simp [ha, hb] at h1 ⊢
  have hq : a / 2 ^ (p + 1) = b / 2 ^ (p + 1) := by
    apply Nat.eq_of_testBit_eq
    intro i
    rw [← Nat.shiftRight_eq_div_pow, ← Nat.shiftRight_eq_div_pow, Nat.testBit_shiftRight, Nat.testBit_shiftRight]
    exact hup _ (by omega)
  rw [Nat.testBit_xor] at hp
  have ea : a / 2 ^ p = 2 * (a / 2 ^ (p + 1)) + (a / 2 ^ p) % 2 := by
    rw [Nat.pow_succ, ← Nat.div_div_eq_div_mul]; omega
  have eb : b / 2 ^ p = 2 * (b / 2 ^ (p + 1)) + (b / 2 ^ p) % 2 := by
    rw [Nat.pow_succ, ← Nat.div_div_eq_div_mul]; omega
  have ta : a.testBit p = decide ((a / 2 ^ p) % 2 = 1) := Nat.testBit_eq_decide_div_mod_eq
  have tb : b.testBit p = decide ((b / 2 ^ p) % 2 = 1) := Nat.testBit_eq_decide_div_mod_eq
  have lt_of : ∀ {x y : Nat}, x / 2 ^ p < y / 2 ^ p → x < y := by
    intro x y hxy
    rcases Nat.lt_or_ge x y with h | h
    · exact h
    · exact absurd (Nat.div_le_div_right (c := 2 ^ p) h) (by omega)
  rw [ta] at hp ⊢
  rw [tb] at hp
  by_cases h1 : (a / 2 ^ p) % 2 = 1 <;> by_cases h2 : (b / 2 ^ p) % 2 = 1
  · simp [h1, h2] at hp
  · have : b < a := lt_of (by omega)
    simp [h1]; omega
  · have : a < b := lt_of (by omega)
    simp [h1]; omega
  · simp [h1, h2] at hp
def nlz (z : Int) : Int := if u32 z = 0 then 32 else 31 - (Nat.log2 (u32 z) : Int)
theorem nlz_congr {x y : Int} (h : w32 x = w32 y) : nlz x = nlz y := by unfold nlz; rw [u32_inj.mpr h]
theorem log2_lt32 {z : Int} (h : u32 z ≠ 0) : Nat.log2 (u32 z) < 32 := (Nat.log2_lt h).mpr (u32_lt z)
theorem nlz_lo (z : Int) : 0 ≤ nlz z := by
  unfold nlz; split
  · decide
  · next h => have := log2_lt32 h; omega
theorem nlz_hi (z : Int) : nlz z ≤ 32 := by unfold nlz; split <;> omega
theorem nlz_lt {z : Int} (h : u32 z ≠ 0) : nlz z ≤ 31 := by unfold nlz; rw [if_neg h]; omega
theorem log2_shr {n k : Nat} (h : 2 ^ k ≤ n) : Nat.log2 (n >>> k) + k = Nat.log2 n := by
  have hn : n ≠ 0 := by have := Nat.two_pow_pos k; omega
  have h1 := (Nat.log2_eq_iff hn).mp rfl
  have hk : k ≤ Nat.log2 n := (Nat.le_log2 hn).mpr h
  have hs : n >>> k ≠ 0 := by
    rw [Nat.shiftRight_eq_div_pow]
    have := Nat.div_pos h (Nat.two_pow_pos k); omega
  have : Nat.log2 (n >>> k) = Nat.log2 n - k := by
    rw [Nat.log2_eq_iff hs, Nat.shiftRight_eq_div_pow]
    constructor
    · rw [Nat.le_div_iff_mul_le (Nat.two_pow_pos k), ← Nat.pow_add, Nat.sub_add_cancel hk]; exact h1.1
    · rw [Nat.div_lt_iff_lt_mul (Nat.two_pow_pos k), ← Nat.pow_add]
      rw [show Nat.log2 n - k + 1 + k = Nat.log2 n + 1 by omega]; exact h1.2
  omega
theorem e_nlz (z : Int) : f_J1_numberOfLeadingZeros z = some (nlz z) := by
  have hz := w32_u32 z
  have hl := u32_lt z
  have pos : ∀ {y : Int}, u32 y < 2147483648 → w32 y = (u32 y : Int) := fun {y} h => by rw [w32_u32, if_pos h]
  have l4 : w32 4 = 4 := by decide
  have l16 : w32 16 = 16 := by decide
  have l256 : w32 256 = 256 := by decide
  have l65536 : w32 65536 = 65536 := by decide
  -- the last steps
  have s73 : ∀ (y n : Int), u32 y ≠ 0 → u32 y < 4 → j_J1_numberOfLeadingZeros_73 y n = some (n - (Nat.log2 (u32 y) : Int)) := by
    intro y n h0 h4
    have h1 : bush y 1 = ((u32 y >>> 1 : Nat) : Int) := by
      have e := u32_bush y (n := 1) (by decide)
      have : w32 (bush y ((1 : Nat) : Int)) = bush y ((1 : Nat) : Int) := w32_toInt _
      rw [← show ((1 : Nat) : Int) = 1 from rfl, ← this, pos (by rw [e, Nat.shiftRight_eq_div_pow]; omega), e]
    unfold j_J1_numberOfLeadingZeros_73
    rw [h1]
    have : u32 y = 1 ∨ u32 y = 2 ∨ u32 y = 3 := by omega
    rcases this with q | q | q <;> rw [q] <;> congr 1
  have st : ∀ {y : Int} {k : Nat}, k < 32 → u32 y < 2147483648 → 2 ^ k ≤ u32 y → u32 (bush y k) ≠ 0 ∧ u32 (bush y k) = u32 y / 2 ^ k ∧ Nat.log2 (u32 (bush y k)) + k = Nat.log2 (u32 y) := by
    intro y k hk hy hky
    have e := u32_bush y hk
    refine ⟨?_, by rw [e, Nat.shiftRight_eq_div_pow], by rw [e]; exact log2_shr hky⟩
    rw [e, Nat.shiftRight_eq_div_pow]
    have := Nat.div_pos hky (Nat.two_pow_pos k); omega
  have s61 : ∀ (y n : Int), u32 y ≠ 0 → u32 y < 16 → j_J1_numberOfLeadingZeros_61 y n = some (n - (Nat.log2 (u32 y) : Int)) := by
    intro y n h0 h4
    unfold j_J1_numberOfLeadingZeros_61
    rw [l4, pos (by omega)]
    split
    · exact s73 y n h0 (by omega)
    · obtain ⟨a, b, c⟩ := st (y := y) (k := 2) (by decide) (by omega) (by omega)
      have := s73 (bush y 2) (n + -2) a (by rw [show (2 : Int) = ((2 : Nat) : Int) from rfl, b]; omega)
      rw [this, show (2 : Int) = ((2 : Nat) : Int) from rfl]
      congr 1; omega
  have s48 : ∀ (y n : Int), u32 y ≠ 0 → u32 y < 256 → j_J1_numberOfLeadingZeros_48 y n = some (n - (Nat.log2 (u32 y) : Int)) := by
    intro y n h0 h4
    unfold j_J1_numberOfLeadingZeros_48
    rw [l16, pos (by omega)]
    split
    · exact s61 y n h0 (by omega)
    · obtain ⟨a, b, c⟩ := st (y := y) (k := 4) (by decide) (by omega) (by omega)
      have := s61 (bush y 4) (n + -4) a (by rw [show (4 : Int) = ((4 : Nat) : Int) from rfl, b]; omega)
      rw [this, show (4 : Int) = ((4 : Nat) : Int) from rfl]
      congr 1; omega
  have s33 : ∀ (y n : Int), u32 y ≠ 0 → u32 y < 65536 → j_J1_numberOfLeadingZeros_33 y n = some (n - (Nat.log2 (u32 y) : Int)) := by
    intro y n h0 h4
    unfold j_J1_numberOfLeadingZeros_33
    rw [l256, pos (by omega)]
    split
    · exact s48 y n h0 (by omega)
    · obtain ⟨a, b, c⟩ := st (y := y) (k := 8) (by decide) (by omega) (by omega)
      have := s48 (bush y 8) (n + -8) a (by rw [show (8 : Int) = ((8 : Nat) : Int) from rfl, b]; omega)
      rw [this, show (8 : Int) = ((8 : Nat) : Int) from rfl]
      congr 1; omega
  unfold f_J1_numberOfLeadingZeros nlz
  rw [l65536]
  by_cases hneg : u32 z < 2147483648
  · rw [pos hneg]
    by_cases h0 : u32 z = 0
    · rw [if_neg (by omega), if_pos (by omega), if_pos h0]; rfl
    · rw [if_pos (by omega), if_neg h0]
      split
      · exact s33 z 31 h0 (by omega)
      · obtain ⟨a, b, c⟩ := st (y := z) (k := 16) (by decide) (by omega) (by omega)
        have := s33 (bush z 16) (31 + -16) a (by rw [show (16 : Int) = ((16 : Nat) : Int) from rfl, b]; omega)
        rw [this, show (16 : Int) = ((16 : Nat) : Int) from rfl]
        congr 1; omega
  · rw [if_neg hneg] at hz
    rw [hz, if_neg (by omega), if_neg (by omega), if_neg (by omega)]
    have : Nat.log2 (u32 z) = 31 := (Nat.log2_eq_iff (by omega)).mpr ⟨by omega, by omega⟩
    rw [this]; rfl
theorem e_compare (x y : Int) : f_J1_compare x y = some (if w32 x < w32 y then -1 else if w32 x = w32 y then 0 else 1) := by
  unfold f_J1_compare j_J1_compare_19
  split
  · rfl
  · split <;> rfl
def ucmp (x y : Int) : Int := if u32 x < u32 y then -1 else if u32 x = u32 y then 0 else 1
theorem w32_flip (x : Int) : w32 (x + (-2147483648)) = (u32 x : Int) - 2147483648 := by
  have h1 := u32_emod x
  have h2 := u32_emod (x + (-2147483648))
  have h3 := w32_u32 (x + (-2147483648))
  have h4 := u32_lt x
  have h5 := u32_lt (x + (-2147483648))
  rw [h3]
  split <;> omega
theorem e_cmpF (x y : Int) : f_J1_compare (x + (-2147483648)) (y + (-2147483648)) = some (ucmp x y) := by
  rw [e_compare, w32_flip, w32_flip]
  unfold ucmp
  congr 1
  by_cases h : u32 x < u32 y
  · rw [if_pos h, if_pos (by omega)]
  · rw [if_neg h, if_neg (by omega)]
    by_cases h2 : u32 x = u32 y
    · rw [if_pos h2, if_pos (by omega)]
    · rw [if_neg h2, if_neg (by omega)]
theorem e_cmpU (x y : Int) : f_J1_compareUnsigned x y = some (ucmp x y) := by
  unfold f_J1_compareUnsigned
  rw [e_cmpF]; rfl
theorem e_order (x y : Int) : f_X16_order x y = some (ucmp x y) := by
  unfold f_X16_order
  rw [e_cmpF]; rfl
def rol (x n : Int) : Int := bor (bshl x n) (bush x (-n))
theorem e_rol (x n : Int) : f_J1_rotateLeft x n = some (rol x n) := rfl
