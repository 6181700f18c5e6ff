/-! SHA-1 as both programs compute it -/
def wrd (B : Nat → Int) (t : Nat) : Int := bor (bor (bor (bshl (B (4 * t)) 24) (bshl (B (4 * t + 1)) 16)) (bshl (B (4 * t + 2)) 8)) (B (4 * t + 3))
def schW (B : Nat → Int) (t : Nat) : Int :=
  if h : t < 16 then w32 (wrd B t) else w32 (rol (bxor (bxor (bxor (schW B (t - 3)) (schW B (t - 8))) (schW B (t - 14))) (schW B (t - 16))) 1)
termination_by t
decreasing_by all_goals omega
def mxf (t : Nat) (b c d : Int) : Int :=
  if t < 20 then (bor (band b c) (band (bxor b (-1)) d)) + 1518500249 else if t < 40 then (bxor (bxor b c) d) + 1859775393 else if t < 60 then (bor (bor (band b c) (band b d)) (band c d)) + (-1894007588) else (bxor (bxor b c) d) + (-899497514)
abbrev S5 : Type := Int × Int × Int × Int × Int
def rnd (w : Nat → Int) (t : Nat) (s : S5) : S5 := (((rol s.1 5 + mxf t s.2.1 s.2.2.1 s.2.2.2.1) + s.2.2.2.2) + w t, s.1, rol s.2.1 30, s.2.2.1, s.2.2.2.1)
def rnds (w : Nat → Int) : Nat → S5 → S5
  | 0, s => s
  | t + 1, s => rnd w t (rnds w t s)
def shc (h : Nat → Int) (B : Nat → Int) : Nat → Int := fun i =>
  let r := rnds (schW B) 80 (h 0, h 1, h 2, h 3, h 4)
  if i = 0 then w32 (h 0 + r.1) else if i = 1 then w32 (h 1 + r.2.1) else if i = 2 then w32 (h 2 + r.2.2.1) else if i = 3 then w32 (h 3 + r.2.2.2.1) else w32 (h 4 + r.2.2.2.2)
def sh0 : Nat → Int := fun i => if i = 0 then 1732584193 else if i = 1 then -271733879 else if i = 2 then -1732584194 else if i = 3 then 271733878 else -1009589776
def shb (pad : Nat → Int) : Nat → (Nat → Int)
  | 0 => sh0
  | k + 1 => shc (shb pad k) (fun j => pad (64 * k + j))
def nbl (n : Nat) : Nat := (n + 8) / 64 + 1
def pdb (f : Nat → Int) (n : Nat) (i : Nat) : Int := if i < n then f i else if i = n then 128 else if 64 * nbl n - 1 - i < 4 then band (bush (8 * (n : Int)) (8 * ((64 * nbl n - 1 - i : Nat) : Int))) 255 else 0
/-- the hash of the bytes f 0 .. f (n-1), each from 0 to 255 -/
def sha1 (f : Nat → Int) (n : Nat) : Nat → Int := shb (pdb f n) (nbl n)
theorem e_mixed {t : Nat} (ht : t < 80) (b c d : Int) : f_X8_mixed (t : Int) b c d = some (mxf t b c d) := by
  have h := w32_j (j := t) (by omega)
  unfold f_X8_mixed mxf
  rw [h, show w32 20 = 20 by decide, show w32 40 = 40 by decide, show w32 60 = 60 by decide]
  by_cases h1 : t < 20
  · rw [if_pos h1, if_pos (by omega)]
  · rw [if_neg h1, if_neg (by omega)]
    by_cases h2 : t < 40
    · rw [if_pos h2, if_pos (by omega)]
    · rw [if_neg h2, if_neg (by omega)]
      by_cases h3 : t < 60
      · rw [if_pos h3, if_pos (by omega)]
      · rw [if_neg h3, if_neg (by omega)]
theorem e_turned {n m : Int} (h : ((Int32.ofInt (32 - n)).toUInt32 &&& Int32.toUInt32 31) = ((Int32.ofInt (-n)).toUInt32 &&& Int32.toUInt32 31)) (x : Int) : f_X16_turned x n = some (rol x n) := by
  unfold f_X16_turned rol bush
  rw [h]
theorem e_turned1 (x : Int) : f_X16_turned x 1 = some (rol x 1) := e_turned (m := 0) (by decide) x
theorem e_turned5 (x : Int) : f_X16_turned x 5 = some (rol x 5) := e_turned (m := 0) (by decide) x
theorem e_turned30 (x : Int) : f_X16_turned x 30 = some (rol x 30) := e_turned (m := 0) (by decide) x
theorem schW_lt {B : Nat → Int} {t : Nat} (h : t < 16) : schW B t = w32 (wrd B t) := by
  unfold schW; rw [dif_pos h]
theorem schW_ge {B : Nat → Int} {t : Nat} (h : ¬ t < 16) : schW B t = w32 (rol (bxor (bxor (bxor (schW B (t - 3)) (schW B (t - 8))) (schW B (t - 14))) (schW B (t - 16))) 1) := by
  rw [schW, dif_neg h]
theorem schW_ok (B : Nat → Int) (t : Nat) : w32 (schW B t) = schW B t := by
  by_cases h : t < 16
  · rw [schW_lt h, w32_w32]
  · rw [schW_ge h, w32_w32]
theorem shc_ok (h B : Nat → Int) (i : Nat) : w32 (shc h B i) = shc h B i := by
  unfold shc; simp only
  split
  · exact w32_w32 _
  · split
    · exact w32_w32 _
    · split
      · exact w32_w32 _
      · split <;> exact w32_w32 _
theorem shb_ok (pad : Nat → Int) (k i : Nat) : w32 (shb pad k i) = shb pad k i := by
  cases k with
  | zero =>
    show w32 (sh0 i) = sh0 i
    unfold sh0
    split
    · decide
    · split
      · decide
      · split
        · decide
        · split <;> decide
  | succ k => exact shc_ok _ _ _
/-- the reference's block: its message at msg (159), its schedule (160), its sums (161) -/
theorem e_X16_block {V : VV} {p : Nat} (hp : p + 64 ≤ 576) : ∃ V', f_X16_block (p : Int) V = some V' ∧ (∀ i, i < 5 → vI V' 161 i = shc (fun i => vI V 161 i) (fun j => vI V 159 (p + j)) i) ∧ ExV (fun a => a = 160 ∨ a = 161) V V' := by
  -- first sixteen words
  let B : Nat → Int := fun j => vI V 159 (p + j)
  have s1 : ∀ (t : Nat) (W : VV), t < 16 → ((∀ j, j < t → vI W 160 j = schW B j) ∧ ExV (fun a => a = 160) V W) → ∃ W', b_X16_block_2 (p : Int) (t : Int) W = some (.inl (((t + 1 : Nat) : Int), W')) ∧ ((∀ j, j < t + 1 → vI W' 160 j = schW B j) ∧ ExV (fun a => a = 160) V W') := by
    intro t W ht hI
    have hw := w32_j (j := t) (by omega)
    have e : ∀ k : Nat, k < 4 → w32 ((p : Int) + 4 * (t : Int) + (k : Int)) = ((p + 4 * t + k : Nat) : Int) := fun k hk => by rw [w32_id (by omega) (by omega)]; omega
    have r : ∀ k, vI W 159 (p + 4 * t + k) = B (4 * t + k) := fun k => by
      show _ = vI V 159 (p + (4 * t + k))
      rw [ExV.vI hI.2 (by decide), Nat.add_assoc]
    have e0 := e 0 (by omega)
    have e1 : w32 ((p : Int) + 4 * (t : Int) + 1) = ((p + 4 * t + 1 : Nat) : Int) := e 1 (by omega)
    have e2 : w32 ((p : Int) + 4 * (t : Int) + 2) = ((p + 4 * t + 2 : Nat) : Int) := e 2 (by omega)
    have e3 : w32 ((p : Int) + 4 * (t : Int) + 3) = ((p + 4 * t + 3 : Nat) : Int) := e 3 (by omega)
    simp only [Int.natCast_zero, Int.add_zero, Nat.add_zero] at e0
    refine ⟨st2 W 160 t (wrd B t), ?_, ?_, hI.2.trans (ExV.st rfl)⟩
    · unfold b_X16_block_2
      rw [hw, show w32 16 = 16 by decide, if_pos (by omega), l2_e e0 (by omega), Option.bind_some, l2_e e1 (by omega), Option.bind_some, l2_e e2 (by omega), Option.bind_some, l2_e e3 (by omega), Option.bind_some, s2_e hw (by omega), Option.bind_some]
      rw [show vI W 159 (p + 4 * t) = B (4 * t) from r 0, r 1, r 2, r 3]
      rfl
    · intro j hj
      rw [vI_st2]
      by_cases hjt : j = t
      · rw [if_pos ⟨rfl, hjt⟩, hjt, schW_lt ht]
      · rw [if_neg (fun q => hjt q.2)]
        exact hI.1 j (by omega)
  obtain ⟨⟨x1, W1⟩, n1, hn1, hI1, q1⟩ := lp_inv (b := fun s : Int × VV => b_X16_block_2 (p : Int) s.1 s.2) (fun t s => s.1 = (t : Int) ∧ (∀ j, j < t → vI s.2 160 j = schW B j) ∧ ExV (fun a => a = 160) V s.2) 16
    (fun t s ht hs => by
      obtain ⟨z, W⟩ := s
      obtain ⟨rfl, h2⟩ := hs
      obtain ⟨W', e, h3⟩ := s1 t W ht h2
      exact ⟨_, e, rfl, h3⟩) FU 0 (0, V) (by decide) (by decide) ⟨rfl, fun j hj => by omega, ExV.refl⟩
  obtain ⟨rfl, hs1, hx1⟩ := hI1
  simp only at hs1 hx1
  have hb1 : b_X16_block_2 (p : Int) ((16 : Nat) : Int) W1 = xit (j_X16_block_68 W1) := by
    unfold b_X16_block_2
    rw [if_neg (by decide)]
  -- the rest of the schedule
  have s2 : ∀ (t : Nat) (W : VV), 16 ≤ t → t < 80 → ((∀ j, j < t → vI W 160 j = schW B j) ∧ ExV (fun a => a = 160) V W) → ∃ W', b_X16_block_71 (t : Int) W = some (.inl (((t + 1 : Nat) : Int), W')) ∧ ((∀ j, j < t + 1 → vI W' 160 j = schW B j) ∧ ExV (fun a => a = 160) V W') := by
    intro t W h16 ht hI
    have hw := w32_j (j := t) (by omega)
    have e : ∀ k : Nat, k ≤ 16 → w32 ((t : Int) - (k : Int)) = ((t - k : Nat) : Int) := fun k hk => by rw [w32_id (by omega) (by omega)]; omega
    have e3 : w32 ((t : Int) - 3) = ((t - 3 : Nat) : Int) := e 3 (by omega)
    have e8 : w32 ((t : Int) - 8) = ((t - 8 : Nat) : Int) := e 8 (by omega)
    have e14 : w32 ((t : Int) - 14) = ((t - 14 : Nat) : Int) := e 14 (by omega)
    have e16 : w32 ((t : Int) - 16) = ((t - 16 : Nat) : Int) := e 16 (by omega)
    refine ⟨st2 W 160 t (rol (bxor (bxor (bxor (schW B (t - 3)) (schW B (t - 8))) (schW B (t - 14))) (schW B (t - 16))) 1), ?_, ?_, hI.2.trans (ExV.st rfl)⟩
    · unfold b_X16_block_71
      rw [hw, show w32 80 = 80 by decide, if_pos (by omega), l2_e e3 (by omega), Option.bind_some, l2_e e8 (by omega), Option.bind_some, l2_e e14 (by omega), Option.bind_some, l2_e e16 (by omega), Option.bind_some, e_turned1, Option.bind_some, s2_e hw (by omega), Option.bind_some, hI.1 _ (by omega), hI.1 _ (by omega), hI.1 _ (by omega), hI.1 _ (by omega)]
      rfl
    · intro j hj
      rw [vI_st2]
      by_cases hjt : j = t
      · rw [if_pos ⟨rfl, hjt⟩, hjt]
        exact (schW_ge (by omega)).symm
      · rw [if_neg (fun q => hjt q.2)]
        exact hI.1 j (by omega)
  obtain ⟨⟨x2, W2⟩, n2, hn2, hI2, q2⟩ := lp_inv (b := fun s : Int × VV => b_X16_block_71 s.1 s.2) (fun t s => s.1 = ((16 + t : Nat) : Int) ∧ (∀ j, j < 16 + t → vI s.2 160 j = schW B j) ∧ ExV (fun a => a = 160) V s.2) 64
    (fun t s ht hs => by
      obtain ⟨z, W⟩ := s
      obtain ⟨rfl, h2⟩ := hs
      obtain ⟨W', e, h3⟩ := s2 (16 + t) W (by omega) (by omega) h2
      exact ⟨_, e, rfl, h3⟩) FU 0 (16, W1) (by decide) (by decide) ⟨rfl, hs1, hx1⟩
  obtain ⟨rfl, hs2, hx2⟩ := hI2
  simp only at hs2 hx2
  have hb2 : b_X16_block_71 ((16 + 64 : Nat) : Int) W2 = xit (j_X16_block_131 W2) := by
    unfold b_X16_block_71
    rw [if_neg (by decide)]
  -- the rounds
  have hh : ∀ i, vI W2 161 i = vI V 161 i := fun i => ExV.vI hx2 (by decide) i
  let s0 : S5 := (vI V 161 0, vI V 161 1, vI V 161 2, vI V 161 3, vI V 161 4)
  have s3 : ∀ t : Nat, t < 80 → ∀ s : S5, b_X16_block_172 s.1 s.2.1 s.2.2.1 s.2.2.2.1 s.2.2.2.2 (t : Int) W2 = some (.inl ((rnd (schW B) t s).1, (rnd (schW B) t s).2.1, (rnd (schW B) t s).2.2.1, (rnd (schW B) t s).2.2.2.1, (rnd (schW B) t s).2.2.2.2, ((t + 1 : Nat) : Int))) := by
    intro t ht s
    have hw := w32_j (j := t) (by omega)
    have key : ∀ f K : Int, mxf t s.2.1 s.2.2.1 s.2.2.2.1 = f + K → j_X16_block_283 s.1 s.2.1 s.2.2.1 s.2.2.2.1 s.2.2.2.2 (t : Int) f K W2 = some (.inl ((rnd (schW B) t s).1, (rnd (schW B) t s).2.1, (rnd (schW B) t s).2.2.1, (rnd (schW B) t s).2.2.2.1, (rnd (schW B) t s).2.2.2.2, ((t + 1 : Nat) : Int))) := by
      intro f K hf
      unfold j_X16_block_283
      rw [e_turned5, Option.bind_some, l2_e hw (by omega), Option.bind_some, e_turned30, Option.bind_some, hs2 t (by omega)]
      have e : ((((rol s.1 5 + f) + s.2.2.2.2) + K) + schW B t) = (rnd (schW B) t s).1 := by
        show _ = ((rol s.1 5 + mxf t s.2.1 s.2.2.1 s.2.2.2.1) + s.2.2.2.2) + schW B t
        rw [hf]
        omega
      rw [e]
      rfl
    unfold b_X16_block_172 j_X16_block_214 j_X16_block_239
    rw [hw, show w32 80 = 80 by decide, show w32 20 = 20 by decide, show w32 40 = 40 by decide, show w32 60 = 60 by decide, show w32 59 = 59 by decide, if_pos (by omega)]
    by_cases h1 : t < 20
    · rw [if_pos (by omega), if_pos (by omega)]
      exact key _ _ (by unfold mxf; rw [if_pos h1])
    · by_cases h2 : t < 40
      · rw [if_neg (by omega), if_pos (by omega), if_neg (by omega), if_pos (by omega)]
        exact key _ _ (by unfold mxf; rw [if_neg h1, if_pos h2])
      · by_cases h3 : t < 60
        · rw [if_neg (by omega), if_neg (by omega), if_neg (by omega), if_neg (by omega), if_neg (by omega), if_pos (by omega)]
          exact key _ _ (by unfold mxf; rw [if_neg h1, if_neg h2, if_pos h3])
        · rw [if_neg (by omega), if_neg (by omega), if_pos (by omega), if_neg (by omega), if_neg (by omega), if_neg (by omega)]
          exact key _ _ (by unfold mxf; rw [if_neg h1, if_neg h2, if_neg h3])
  let r := rnds (schW B) 80 s0
  have q3 : l_X16_block_172 s0.1 s0.2.1 s0.2.2.1 s0.2.2.2.1 s0.2.2.2.2 0 W2 = j_X16_block_336 r.1 r.2.1 r.2.2.1 r.2.2.2.1 r.2.2.2.2 W2 := by
    unfold l_X16_block_172
    refine lp_seq (fun t => ((rnds (schW B) t s0).1, (rnds (schW B) t s0).2.1, (rnds (schW B) t s0).2.2.1, (rnds (schW B) t s0).2.2.2.1, (rnds (schW B) t s0).2.2.2.2, ((t : Nat) : Int))) 80 (fun t ht => s3 t ht _) ?_ FU 0 (by decide) (by decide)
    show b_X16_block_172 _ _ _ _ _ ((80 : Nat) : Int) W2 = _
    unfold b_X16_block_172
    rw [if_neg (by decide)]
  refine ⟨st2 (st2 (st2 (st2 (st2 W2 161 0 (vI V 161 0 + r.1)) 161 1 (vI V 161 1 + r.2.1)) 161 2 (vI V 161 2 + r.2.2.1)) 161 3 (vI V 161 3 + r.2.2.2.1)) 161 4 (vI V 161 4 + r.2.2.2.2), ?_, ?_, ?_⟩
  · unfold f_X16_block l_X16_block_2
    refine Eq.trans q1 ?_
    refine Eq.trans (lpN_end (b := fun s : Int × VV => b_X16_block_2 (p : Int) s.1 s.2) (s := (((16 : Nat) : Int), W1)) hn1 hb1) ?_
    unfold j_X16_block_68 l_X16_block_71
    refine Eq.trans q2 ?_
    refine Eq.trans (lpN_end (b := fun s : Int × VV => b_X16_block_71 s.1 s.2) (s := (((16 + 64 : Nat) : Int), W2)) hn2 hb2) ?_
    unfold j_X16_block_131
    rw [l2_e (j := 0) rfl (by decide), Option.bind_some, l2_e (j := 1) rfl (by decide), Option.bind_some, l2_e (j := 2) rfl (by decide), Option.bind_some, l2_e (j := 3) rfl (by decide), Option.bind_some, l2_e (j := 4) rfl (by decide), Option.bind_some, hh, hh, hh, hh, hh]
    refine Eq.trans q3 ?_
    unfold j_X16_block_336
    rw [l2_e (j := 0) rfl (by decide), Option.bind_some, s2_e (j := 0) rfl (by decide), Option.bind_some, hh,
      l2_e (j := 1) rfl (by decide), Option.bind_some, s2_e (j := 1) rfl (by decide), Option.bind_some, vI_st2, if_neg (by decide), hh,
      l2_e (j := 2) rfl (by decide), Option.bind_some, s2_e (j := 2) rfl (by decide), Option.bind_some, vI_st2, if_neg (by decide), vI_st2, if_neg (by decide), hh,
      l2_e (j := 3) rfl (by decide), Option.bind_some, s2_e (j := 3) rfl (by decide), Option.bind_some, vI_st2, if_neg (by decide), vI_st2, if_neg (by decide), vI_st2, if_neg (by decide), hh,
      l2_e (j := 4) rfl (by decide), Option.bind_some, s2_e (j := 4) rfl (by decide), Option.bind_some, vI_st2, if_neg (by decide), vI_st2, if_neg (by decide), vI_st2, if_neg (by decide), vI_st2, if_neg (by decide), hh]
  · intro i hi
    have h5 : i = 0 ∨ i = 1 ∨ i = 2 ∨ i = 3 ∨ i = 4 := by omega
    simp only [vI_st2]
    rcases h5 with rfl | rfl | rfl | rfl | rfl <;> simp [shc] <;> rfl
  · have hx : ExV (fun a => a = 160 ∨ a = 161) V W2 := hx2.mono (fun a h => Or.inl h)
    exact ((((hx.trans (ExV.st (Or.inr rfl))).trans (ExV.st (Or.inr rfl))).trans (ExV.st (Or.inr rfl))).trans (ExV.st (Or.inr rfl))).trans (ExV.st (Or.inr rfl))
