/-! bytes: words out of bytes, bytes out of words -/
theorem bor_shl8 {v b : Int} (h0 : 0 ≤ b) (h1 : b < 256) : bor (bshl v 8) b = w32 (v * 256 + b) := by
  have e : bor (bshl v 8) b = w32 (bor (bshl v 8) b) := (w32_toInt _).symm
  rw [e, ← u32_inj, u32_bor, show (8 : Int) = ((8 : Nat) : Int) from rfl, u32_bshl v (n := 8) (by decide)]
  have hb : u32 b = b.toNat := by
    have := u32_emod b
    rw [Int.emod_eq_of_lt h0 (by omega)] at this
    omega
  have hv := u32_emod v
  have hs := u32_emod (v * 256 + b)
  have hvl := u32_lt v
  have hx : (u32 v <<< 8) % 4294967296 = (u32 v % 16777216) <<< 8 := by
    rw [Nat.shiftLeft_eq, Nat.shiftLeft_eq]; omega
  rw [hx, hb, ← Nat.shiftLeft_add_eq_or_of_lt (by omega)]
  rw [Nat.shiftLeft_eq]
  omega
theorem bor_word {a b c d : Int} (ha : 0 ≤ a ∧ a < 256) (hb : 0 ≤ b ∧ b < 256) (hc : 0 ≤ c ∧ c < 256) (hd : 0 ≤ d ∧ d < 256) : bor (bor (bor (bshl a 24) (bshl b 16)) (bshl c 8)) d = w32 (a * 16777216 + b * 65536 + c * 256 + d) := by
  have hn : ∀ {x : Int}, 0 ≤ x ∧ x < 256 → u32 x = x.toNat := fun {x} h => by
    have := u32_emod x
    rw [Int.emod_eq_of_lt h.1 (by omega)] at this
    omega
  have e : bor (bor (bor (bshl a 24) (bshl b 16)) (bshl c 8)) d = w32 (bor (bor (bor (bshl a 24) (bshl b 16)) (bshl c 8)) d) := (w32_toInt _).symm
  rw [e, ← u32_inj, u32_bor, u32_bor, u32_bor, show (24 : Int) = ((24 : Nat) : Int) from rfl, show (16 : Int) = ((16 : Nat) : Int) from rfl, show (8 : Int) = ((8 : Nat) : Int) from rfl, u32_bshl a (n := 24) (by decide), u32_bshl b (n := 16) (by decide), u32_bshl c (n := 8) (by decide), hn ha, hn hb, hn hc, hn hd]
  have hs := u32_emod (a * 16777216 + b * 65536 + c * 256 + d)
  obtain ⟨a, rfl⟩ := Int.eq_ofNat_of_zero_le ha.1
  obtain ⟨b, rfl⟩ := Int.eq_ofNat_of_zero_le hb.1
  obtain ⟨c, rfl⟩ := Int.eq_ofNat_of_zero_le hc.1
  obtain ⟨d, rfl⟩ := Int.eq_ofNat_of_zero_le hd.1
  simp only [Int.toNat_natCast]
  have e1 : (a <<< 24) % 4294967296 = (a <<< 8) <<< 16 := by simp only [Nat.shiftLeft_eq]; omega
  have e2 : (b <<< 16) % 4294967296 = b <<< 16 := by simp only [Nat.shiftLeft_eq]; omega
  have e3 : (c <<< 8) % 4294967296 = c <<< 8 := by simp only [Nat.shiftLeft_eq]; omega
  rw [e1, e2, e3]
  have o1 : (a <<< 8) <<< 16 ||| b <<< 16 = (a <<< 8 + b) <<< 16 := by
    rw [Nat.shiftLeft_add_eq_or_of_lt (by omega), Nat.shiftLeft_or_distrib]
  have o2 : (a <<< 8 + b) <<< 16 ||| c <<< 8 = ((a <<< 8 + b) <<< 8 + c) <<< 8 := by
    generalize a <<< 8 + b = q
    rw [Nat.shiftLeft_add_eq_or_of_lt (show c < 2 ^ 8 by omega), Nat.shiftLeft_or_distrib, ← Nat.shiftLeft_add]
  rw [o1, o2, ← Nat.shiftLeft_add_eq_or_of_lt (by omega)]
  simp only [Nat.shiftLeft_eq]
  omega
/-- what stands in n bytes -/
def gW (f : Nat → Int) : Nat → Int
  | 0 => 0
  | k + 1 => bor (bshl (gW f k) 8) (f k)
def isB (f : Nat → Int) : Prop := ∀ i, 0 ≤ f i ∧ f i < 256
theorem gW1 {f : Nat → Int} (h : isB f) : gW f 1 = f 0 := by
  show bor (bshl 0 8) (f 0) = _
  have := h 0
  rw [bor_shl8 this.1 this.2, w32_id (by omega) (by omega)]; omega
theorem gW2 {f : Nat → Int} (h : isB f) : gW f 2 = f 0 * 256 + f 1 := by
  show bor (bshl (gW f 1) 8) (f 1) = _
  have h0 := h 0
  have h1 := h 1
  rw [gW1 h, bor_shl8 h1.1 h1.2, w32_id (by omega) (by omega)]
def wd4 (f : Nat → Int) : Int := w32 (f 0 * 16777216 + f 1 * 65536 + f 2 * 256 + f 3)
theorem gW4 {f : Nat → Int} (h : isB f) : gW f 4 = wd4 f := by
  show bor (bshl (bor (bshl (gW f 2) 8) (f 2)) 8) (f 3) = _
  have h0 := h 0
  have h1 := h 1
  have h2 := h 2
  have h3 := h 3
  rw [gW2 h, bor_shl8 h2.1 h2.2, bor_shl8 h3.1 h3.2]
  unfold wd4
  rw [← u32_inj]
  have e1 := u32_emod (w32 ((f 0 * 256 + f 1) * 256 + f 2) * 256 + f 3)
  have e2 := u32_emod (f 0 * 16777216 + f 1 * 65536 + f 2 * 256 + f 3)
  have e3 := w32_u32 ((f 0 * 256 + f 1) * 256 + f 2)
  have e4 := u32_emod ((f 0 * 256 + f 1) * 256 + f 2)
  split at e3 <;> omega
/-- a Packet object -/
def isP (M : MM) (a : Nat) : Prop := (kd M a).1 = 4 ∧ rR M a 0 = ((a + 1 : Nat) : Int) ∧ kd M (a + 1) = (113, 460)
def bC (M : MM) (a p : Nat) : Nat → Int := fun i => rU M (a + 1) (p + i)
theorem bC_ok (M : MM) (a p : Nat) : isB (bC M a p) := fun _ => ⟨rU_lo, rU_hi⟩
theorem isP_gf {M : MM} {a : Nat} (h : isP M a) : gfr 4 0 (a : Int) M = some ((a + 1 : Nat) : Int) := by rw [gfr_e h.1, h.2.1]
theorem isP_la {M : MM} {a j : Nat} {i : Int} (h : isP M a) (hi : w32 i = (j : Int)) (hj : j < 460) : lab ((a + 1 : Nat) : Int) i M = some (rB M (a + 1) j) := lab_e h.2.2 (by decide) (by decide) hi hj
theorem isP.ex {A : Nat → Prop} {M M1 : MM} {a : Nat} (h : Ex A M M1) (hs : isP M a) : isP M1 a := ⟨by rw [h.kd]; exact hs.1, by rw [h.rR]; exact hs.2.1, by rw [h.kd]; exact hs.2.2⟩
theorem isK.ex {A : Nat → Prop} {M M1 : MM} {a : Nat} (h : Ex A M M1) (hs : isK M a) : isK M1 a := ⟨by rw [h.kd]; exact hs.1, by rw [h.rR]; exact hs.2.1, by rw [h.kd]; exact hs.2.2⟩
theorem e_X4_get {M : MM} {a p n : Nat} (h : isP M a) (hp : p + n ≤ 460) : f_X4_get (a : Int) (p : Int) (n : Int) M = some (gW (bC M a p) n) := by
  unfold f_X4_get l_X4_get_5
  have hwn : w32 (n : Int) = (n : Int) := w32_id (by omega) (by omega)
  refine lp_seq (b := fun s : Int × Int => b_X4_get_5 (a : Int) (p : Int) (n : Int) s.1 s.2 M) (fun t => (gW (bC M a p) t, ((t : Nat) : Int))) n ?_ ?_ FU 0 (by omega) (by unfold FU; omega)
  · intro t ht
    have hw := w32_j (j := t) (by omega)
    have hw2 : w32 ((p : Int) + (t : Int)) = ((p + t : Nat) : Int) := by rw [w32_id (by omega) (by omega)]; omega
    show b_X4_get_5 (a : Int) (p : Int) (n : Int) (gW (bC M a p) t) (t : Int) M = _
    unfold b_X4_get_5
    rw [hw, hwn, if_pos (by omega), isP_gf h, Option.bind_some, isP_la h hw2 (by omega), Option.bind_some, band_rB]
    rfl
  · show b_X4_get_5 (a : Int) (p : Int) (n : Int) (gW (bC M a p) n) (n : Int) M = _
    unfold b_X4_get_5
    rw [if_neg (by omega)]
theorem e_get1 {M : MM} {a p : Nat} {i : Int} (h : isP M a) (hi : i = (p : Int)) (hp : p < 460) : f_X4_get (a : Int) i 1 M = some (rU M (a + 1) p) := by
  rw [hi, show (1 : Int) = ((1 : Nat) : Int) from rfl, e_X4_get h (by omega), gW1 (bC_ok M a p)]
  rfl
theorem e_get2 {M : MM} {a p : Nat} {i : Int} (h : isP M a) (hi : i = (p : Int)) (hp : p + 1 < 460) : f_X4_get (a : Int) i 2 M = some (rU M (a + 1) p * 256 + rU M (a + 1) (p + 1)) := by
  rw [hi, show (2 : Int) = ((2 : Nat) : Int) from rfl, e_X4_get h (by omega), gW2 (bC_ok M a p)]
  rfl
theorem e_get4 {M : MM} {a p : Nat} {i : Int} (h : isP M a) (hi : i = (p : Int)) (hp : p + 3 < 460) : f_X4_get (a : Int) i 4 M = some (wd4 (bC M a p)) := by
  rw [hi, show (4 : Int) = ((4 : Nat) : Int) from rfl, e_X4_get h (by omega), gW4 (bC_ok M a p)]
theorem e_type {M : MM} {a : Nat} (h : isP M a) : f_X4_type (a : Int) M = some (rU M (a + 1) 0) := by
  unfold f_X4_type
  rw [ck_e h.1, e_get1 (i := 0) (p := 0) h rfl (by decide)]; rfl
theorem e_number {M : MM} {a : Nat} (h : isP M a) : f_X4_number (a : Int) M = some (wd4 (bC M a 1)) := by
  unfold f_X4_number
  rw [ck_e h.1, e_get4 (i := 1) (p := 1) h rfl (by decide)]; rfl
/-- the key that stands in bytes -/
def kB (f : Nat → Int) : KF := fun i => wd4 (fun j => f (4 * i + j))
theorem e_X4_getKey {M : MM} {a p b : Nat} (h : isP M a) (hb : isK M b) (hp : p + 20 ≤ 460) : ∃ M', f_X4_getKey (a : Int) (p : Int) (b : Int) M = some M' ∧ (∀ i, i < 5 → kC M' b i = kB (bC M a p) i) ∧ Ex (fun q => q = b + 1) M M' := by
  have hne : a + 1 ≠ b + 1 := fun q => by have h1 := h.2.2; rw [q, hb.2.2] at h1; cases h1
  obtain ⟨⟨x7, W7⟩, n7, hn7, hI7, q7⟩ := lp_inv (b := fun s : Int × MM => b_X4_getKey_2 (a : Int) (p : Int) (b : Int) s.1 s.2) (fun t s => s.1 = (t : Int) ∧ (∀ j, j < t → kC s.2 b j = kB (bC M a p) j) ∧ Ex (fun q => q = b + 1) M s.2) 5
    (fun t s ht hs => by
      obtain ⟨z, U⟩ := s
      obtain ⟨rfl, h2, h3⟩ := hs
      simp only at h2 h3
      have k1 : isP U a := h.ex h3
      have k2 : isK U b := hb.ex h3
      have hw := w32_j (j := t) (by omega)
      have hg : f_X4_get (a : Int) ((p : Int) + 4 * (t : Int)) 4 U = some (kB (bC M a p) t) := by
        rw [e_get4 (p := p + 4 * t) k1 (by omega) (by omega)]
        show some (wd4 (bC U a (p + 4 * t))) = some (wd4 (fun j => bC M a p (4 * t + j)))
        congr 2
        funext j
        show rU U (a + 1) (p + 4 * t + j) = rU M (a + 1) (p + (4 * t + j))
        rw [h3.rU hne, Nat.add_assoc]
      refine ⟨(((t + 1 : Nat) : Int), sI U (b + 1) t (kB (bC M a p) t)), ?_, rfl, ?_, h3.trans (Ex.st rfl)⟩
      · show b_X4_getKey_2 _ _ _ _ _ = _
        unfold b_X4_getKey_2
        rw [hw, w32_5, if_pos (by omega), isK_gf k2, Option.bind_some, ck_e k1.1, hg, Option.bind_some, sai_e k2.2.2 (by decide) (by decide) hw ht]
        rfl
      · intro j hj
        show rI (sI U (b + 1) t _) (b + 1) j = _
        rw [rI_sI]
        by_cases hjt : j = t
        · rw [if_pos ⟨rfl, hjt⟩, hjt]
          exact w32_w32 _
        · rw [if_neg (fun q => hjt q.2)]; exact h2 j (by omega)) FU 0 (0, M) (by decide) (by decide) ⟨rfl, fun j hj => by omega, Ex.refl⟩
  obtain ⟨rfl, hh7, hx7⟩ := hI7
  refine ⟨W7, ?_, hh7, hx7⟩
  unfold f_X4_getKey l_X4_getKey_2
  refine Eq.trans q7 ?_
  refine lpN_end hn7 ?_
  show b_X4_getKey_2 _ _ _ ((5 : Nat) : Int) W7 = _
  unfold b_X4_getKey_2
  rw [if_neg (by decide)]
/-! the reference's in (271) -/
def bV (V : VV) (e p : Nat) : Nat → Int := fun i => vI V e (p + i)
/-- an array's first n ints are bytes -/
def isBV (V : VV) (e n : Nat) : Prop := ∀ i, i < n → 0 ≤ vI V e i ∧ vI V e i < 256
theorem e_pairAt {V : VV} {p : Nat} {i : Int} (hi : i = (p : Int)) (hp : p + 1 < 460) (h : 0 ≤ vI V 271 p ∧ vI V 271 p < 256) (h' : 0 ≤ vI V 271 (p + 1) ∧ vI V 271 (p + 1) < 256) : f_X16_pairAt i V = some (vI V 271 p * 256 + vI V 271 (p + 1)) := by
  have hw : w32 i = (p : Int) := by rw [hi, w32_id (by omega) (by omega)]
  have hw2 : w32 (i + 1) = ((p + 1 : Nat) : Int) := by rw [hi, w32_id (by omega) (by omega)]; omega
  unfold f_X16_pairAt
  rw [l2_e hw (by omega), Option.bind_some, l2_e hw2 (by omega), Option.bind_some, bor_shl8 h'.1 h'.2, w32_id (by omega) (by omega)]
theorem e_numberIn {V : VV} (h : isBV V 271 5) : f_X16_numberIn V = some (wd4 (bV V 271 1)) := by
  unfold f_X16_numberIn
  rw [l2_e (j := 1) rfl (by decide), Option.bind_some, l2_e (j := 2) rfl (by decide), Option.bind_some, l2_e (j := 3) rfl (by decide), Option.bind_some, l2_e (j := 4) rfl (by decide), Option.bind_some, bor_word (h 1 (by decide)) (h 2 (by decide)) (h 3 (by decide)) (h 4 (by decide))]
  rfl
theorem e_keyAt {V : VV} {e n p : Nat} (he : mA e n) (hn : 5 ≤ n) (hne : e ≠ 271) (hp : p + 20 ≤ 460) (h : isBV V 271 (p + 20)) : ∃ V', f_X16_keyAt (e : Int) (p : Int) V = some V' ∧ (∀ i, i < 5 → vI V' e i = kB (bV V 271 p) i) ∧ ExV (fun q => q = e) V V' := by
  obtain ⟨⟨x7, W7⟩, n7, hn7, hI7, q7⟩ := lp_inv (b := fun s : Int × VV => b_X16_keyAt_2 (e : Int) (p : Int) s.1 s.2) (fun t s => s.1 = (t : Int) ∧ (∀ j, j < t → vI s.2 e j = kB (bV V 271 p) j) ∧ ExV (fun q => q = e) V s.2) 5
    (fun t s ht hs => by
      obtain ⟨z, U⟩ := s
      obtain ⟨rfl, h2, h3⟩ := hs
      simp only at h2 h3
      have hw := w32_j (j := t) (by omega)
      have e0 : w32 ((p : Int) + 4 * (t : Int)) = ((p + 4 * t : Nat) : Int) := by rw [w32_id (by omega) (by omega)]; omega
      have e1 : w32 ((p : Int) + 4 * (t : Int) + 1) = ((p + 4 * t + 1 : Nat) : Int) := by rw [w32_id (by omega) (by omega)]; omega
      have e2 : w32 ((p : Int) + 4 * (t : Int) + 2) = ((p + 4 * t + 2 : Nat) : Int) := by rw [w32_id (by omega) (by omega)]; omega
      have e3 : w32 ((p : Int) + 4 * (t : Int) + 3) = ((p + 4 * t + 3 : Nat) : Int) := by rw [w32_id (by omega) (by omega)]; omega
      have r : ∀ i, vI U 271 i = vI V 271 i := fun i => h3.vI (Ne.symm hne) i
      have hv : bor (bor (bor (bshl (vI V 271 (p + 4 * t)) 24) (bshl (vI V 271 (p + 4 * t + 1)) 16)) (bshl (vI V 271 (p + 4 * t + 2)) 8)) (vI V 271 (p + 4 * t + 3)) = kB (bV V 271 p) t := by
        rw [bor_word (h _ (by omega)) (h _ (by omega)) (h _ (by omega)) (h _ (by omega))]
        rfl
      refine ⟨(((t + 1 : Nat) : Int), st2 U e t (kB (bV V 271 p) t)), ?_, rfl, ?_, h3.trans (ExV.st rfl)⟩
      · show b_X16_keyAt_2 _ _ _ _ = _
        unfold b_X16_keyAt_2
        rw [hw, w32_5, if_pos (by omega), l2_e e0 (by omega), Option.bind_some, l2_e e1 (by omega), Option.bind_some, l2_e e2 (by omega), Option.bind_some, l2_e e3 (by omega), Option.bind_some, r, r, r, r, hv, sp_e he hw (by omega)]
        rfl
      · intro j hj
        show vI (st2 U e t _) e j = _
        rw [vI_st2]
        by_cases hjt : j = t
        · rw [if_pos ⟨rfl, hjt⟩, hjt]
          exact w32_w32 _
        · rw [if_neg (fun q => hjt q.2)]; exact h2 j (by omega)) FU 0 (0, V) (by decide) (by decide) ⟨rfl, fun j hj => by omega, ExV.refl⟩
  obtain ⟨rfl, hh7, hx7⟩ := hI7
  refine ⟨W7, ?_, hh7, hx7⟩
  unfold f_X16_keyAt l_X16_keyAt_2
  refine Eq.trans q7 ?_
  refine lpN_end hn7 ?_
  show b_X16_keyAt_2 _ _ ((5 : Nat) : Int) W7 = _
  unfold b_X16_keyAt_2
  rw [if_neg (by decide)]
