/-! whether a datagram is well formed -/
def b2i (b : Bool) : Int := if b = true then 1 else 0
theorem b2i_01 (b : Bool) : b2i b = 0 ∨ b2i b = 1 := by cases b; exact Or.inl rfl; exact Or.inr rfl
theorem bz_b2i {b : Bool} : bz (b2i b) (some (b2i b)) = some (b2i b) := bz_e (b2i_01 b)
def alP (c : Nat → Bool) : Nat → Bool
  | 0 => true
  | k + 1 => alP c k && c k
theorem alP_false {c : Nat → Bool} {k : Nat} (h : alP c k = false) : ∀ m, k ≤ m → alP c m = false
  | 0, hm => by
    have : k = 0 := by omega
    rw [← this]; exact h
  | m + 1, hm => by
    by_cases hk : k = m + 1
    · rw [← hk]; exact h
    · show (alP c m && c m) = false
      rw [alP_false h m (by omega)]; rfl
theorem lp_all {b : Int × Int → Option ((Int × Int) ⊕ Int)} (c : Nat → Bool) (m : Nat) (h1 : ∀ k : Nat, k < m → b (1, (k : Int)) = some (.inl (b2i (c k), ((k + 1 : Nat) : Int)))) (h0 : ∀ k : Nat, k ≤ m → b (0, (k : Int)) = xit (some 0)) (hm : b (1, (m : Int)) = xit (some 1)) :
    ∀ n k : Nat, k ≤ m → m - k < n → lpN b n (b2i (alP c k), (k : Int)) = some (b2i (alP c m))
  | 0, k, _, h => by omega
  | n + 1, k, hk, hn => by
    cases ha : alP c k with
    | false =>
      rw [alP_false ha m hk]
      exact lpN_xit (h0 k hk)
    | true =>
      by_cases hkm : k = m
      · subst hkm
        rw [ha]
        exact lpN_xit hm
      · have e : alP c (k + 1) = c k := by show (alP c k && c k) = c k; rw [ha]; rfl
        refine Eq.trans (lpN_cnt (s := (b2i true, (k : Int))) (h1 k (by omega))) ?_
        rw [← e]
        exact lp_all c m h1 h0 hm n (k + 1) (by omega) (by omega)
/-- the same where all are gone through -/
theorem lp_all2 {b : Int × Int → Option ((Int × Int) ⊕ Int)} (c : Nat → Bool) (m : Nat) (h1 : ∀ k : Nat, k < m → ∀ g : Bool, b (b2i g, (k : Int)) = some (.inl (b2i (g && c k), ((k + 1 : Nat) : Int)))) (hm : ∀ g : Bool, b (b2i g, (m : Int)) = xit (some (b2i g))) (n : Nat) (hn : m < n) : lpN b n (1, 0) = some (b2i (alP c m)) := by
  have := lp_seq (b := b) (x := some (b2i (alP c m))) (fun k => (b2i (alP c k), ((k : Nat) : Int))) m (fun k hk => h1 k hk _) (hm _) n 0 (by omega) (by omega)
  exact this
def okNd (f : Nat → Int) (p k : Nat) : Bool := decide (f (p + 21 * k + 20) < 32)
def okRw (f : Nat → Int) (p w k : Nat) : Bool := decide (f (p + w * k) < 32) && decide (f (p + w * k + 1) < 16) && (decide (w = 2) || (decide (0 < f (p + w * k + 2)) && decide (f (p + w * k + 2) < 16)))
def ndW (n : Nat) (f : Nat → Int) (c : Nat) : Bool := decide (c < n) && decide (f c ≤ 20) && decide ((n : Int) = c + 1 + 21 * f c) && alP (okNd f (c + 1)) (f c).toNat
def psW (n : Nat) (f : Nat → Int) (c : Nat) (lo hi : Int) (w : Nat) : Bool := decide (c < n) && decide (lo ≤ f c) && decide (f c ≤ hi) && decide ((n : Int) = c + 1 + w * f c) && alP (okRw f (c + 1) w) (f c).toNat
def btW (n : Nat) (f : Nat → Int) (c : Nat) : Bool := decide (c + 2 < n) && decide (1 ≤ f c) && decide (f c ≤ 8) && decide (f (c + 1) * 256 + f (c + 2) ≤ 290) && decide ((n : Int) = c + 3 + (f (c + 1) * 256 + f (c + 2)))
theorem e_isLong {M : MM} {a n : Nat} (h : isP M a) (hn : rI M a 1 = (n : Int)) {z : Int} (h0 : 0 ≤ z) (h1 : z ≤ 100000) : f_X4_isLong (a : Int) z M = some (b2i (decide ((n : Int) = 25 + z))) := by
  unfold f_X4_isLong j_X4_isLong_16
  rw [gfi_e h.1, Option.bind_some, w32_rI, hn, w32_id (by omega) (by omega)]
  by_cases hc : (n : Int) = 25 + z
  · rw [if_pos hc, decide_eq_true hc]; exact bz_b2i (b := true)
  · rw [if_neg hc, decide_eq_false hc]; exact bz_b2i (b := false)
theorem e_isAtLeast {M : MM} {a n : Nat} (h : isP M a) (hn : rI M a 1 = (n : Int)) {z : Int} (h0 : 0 ≤ z) (h1 : z ≤ 100000) : f_X4_isAtLeast (a : Int) z M = some (b2i (decide (25 + z ≤ (n : Int)))) := by
  unfold f_X4_isAtLeast j_X4_isAtLeast_16
  rw [gfi_e h.1, Option.bind_some, w32_rI, hn, w32_id (by omega) (by omega)]
  by_cases hc : 25 + z ≤ (n : Int)
  · rw [if_neg (by omega), decide_eq_true hc]; exact bz_b2i (b := true)
  · rw [if_pos (by omega), decide_eq_false hc]; exact bz_b2i (b := false)
theorem w32_b2i (b : Bool) : w32 (b2i b) = b2i b := by cases b <;> decide
theorem w32_rU {M : MM} {a j : Nat} : w32 (rU M a j) = rU M a j := by
  have h1 := @rU_lo M a j
  have h2 := @rU_hi M a j
  exact w32_id (by omega) (by omega)
theorem b2i0 {b : Bool} : (b2i b = 0) ↔ b = false := by cases b <;> decide
theorem e_areNodes {M : MM} {a n : Nat} (h : isP M a) (hn : rI M a 1 = (n : Int)) (hn4 : n ≤ 460) {p : Nat} (hp : p ≤ 100) : f_X4_areNodes (a : Int) (p : Int) M = some (b2i (ndW n (fun i => rU M (a + 1) i) (25 + p))) := by
  let f : Nat → Int := fun i => rU M (a + 1) i
  have hf1 := @rU_lo M (a + 1) (25 + p)
  have hf2 := @rU_hi M (a + 1) (25 + p)
  unfold f_X4_areNodes
  rw [ck_e h.1, e_isAtLeast h hn (by omega) (by omega), Option.bind_some, w32_b2i]
  by_cases c1 : 25 + p < n
  · have d1 : decide (25 + ((p : Int) + 1) ≤ (n : Int)) = true := decide_eq_true (by omega)
    rw [d1, if_neg (by decide), ck_e h.1, e_get1 (p := 25 + p) h (by omega) (by omega), Option.bind_some, w32_rU, show w32 20 = 20 by decide]
    -- the loop from a first good
    have loop : ∀ g : Bool, (g = true → (rU M (a + 1) (25 + p) ≤ 20 ∧ (n : Int) = (25 + p : Nat) + 1 + 21 * rU M (a + 1) (25 + p))) → j_X4_areNodes_48 (a : Int) (p : Int) (rU M (a + 1) (25 + p)) (b2i g) M = some (b2i (g && alP (okNd f (25 + p + 1)) (f (25 + p)).toNat)) := by
      intro g hg
      unfold j_X4_areNodes_48 l_X4_areNodes_52
      have hx : ∀ k : Nat, b_X4_areNodes_52 (a : Int) (p : Int) (rU M (a + 1) (25 + p)) 0 (k : Int) M = xit (some 0) := by
        intro k
        unfold b_X4_areNodes_52 j_X4_areNodes_99
        split
        · rfl
        · rfl
      cases g with
      | false => exact lpN_end (b := fun s : Int × Int => b_X4_areNodes_52 (a : Int) (p : Int) (rU M (a + 1) (25 + p)) s.1 s.2 M) (s := (0, 0)) (by decide) (hx 0)
      | true =>
        obtain ⟨g1, g2⟩ := hg rfl
        have hm : ((f (25 + p)).toNat : Int) = rU M (a + 1) (25 + p) := Int.toNat_of_nonneg hf1
        have := lp_all (b := fun s : Int × Int => b_X4_areNodes_52 (a : Int) (p : Int) (rU M (a + 1) (25 + p)) s.1 s.2 M) (okNd f (25 + p + 1)) (f (25 + p)).toNat (fun k hk => by
          have hw := w32_j (j := k) (by omega)
          show b_X4_areNodes_52 (a : Int) (p : Int) (rU M (a + 1) (25 + p)) 1 (k : Int) M = _
          unfold b_X4_areNodes_52 j_X4_areNodes_92
          rw [hw, w32_rU, if_pos (by omega), if_neg (show ¬ w32 1 = 0 by decide), ck_e h.1, e_get1 (p := 25 + p + 1 + 21 * k + 20) h (by omega) (by omega), Option.bind_some, w32_rU, show w32 32 = 32 by decide]
          by_cases hc : f (25 + p + 1 + 21 * k + 20) < 32
          · have : okNd f (25 + p + 1) k = true := decide_eq_true hc
            rw [if_pos hc, this]; rfl
          · have : okNd f (25 + p + 1) k = false := decide_eq_false hc
            rw [if_neg hc, this]; rfl) (fun k _ => hx k) (by
          show b_X4_areNodes_52 (a : Int) (p : Int) (rU M (a + 1) (25 + p)) 1 ((f (25 + p)).toNat : Int) M = _
          rw [hm]
          unfold b_X4_areNodes_52
          rw [if_neg (by omega)]
          rfl) FU 0 (by omega) (by unfold FU; omega)
        rw [Bool.true_and]
        exact this
    unfold j_X4_areNodes_47
    have e0 := loop false (fun q => by cases q)
    have hfin : ∀ g : Bool, (decide (f (25 + p) ≤ 20) && decide ((n : Int) = (25 + p : Nat) + 1 + 21 * f (25 + p))) = g → (g && alP (okNd f (25 + p + 1)) (f (25 + p)).toNat) = ndW n f (25 + p) := by
      intro g hg
      unfold ndW
      rw [decide_eq_true c1, Bool.true_and, ← hg]
    by_cases c2 : f (25 + p) ≤ 20
    · have c2' : rU M (a + 1) (25 + p) ≤ 20 := c2
      rw [if_neg (by omega), ck_e h.1, e_isLong h hn (by omega) (by omega), Option.bind_some, w32_b2i]
      by_cases c3 : (n : Int) = (25 + p : Nat) + 1 + 21 * f (25 + p)
      · have c3' : (n : Int) = (25 + p : Nat) + 1 + 21 * rU M (a + 1) (25 + p) := c3
        rw [decide_eq_true (show (n : Int) = 25 + ((p : Int) + 1 + 21 * rU M (a + 1) (25 + p)) by omega), if_neg (by decide)]
        rw [← hfin true (by rw [decide_eq_true c2, decide_eq_true c3]; rfl)]
        exact loop true (fun _ => ⟨c2, c3⟩)
      · have c3' : ¬ (n : Int) = (25 + p : Nat) + 1 + 21 * rU M (a + 1) (25 + p) := c3
        rw [decide_eq_false (show ¬ (n : Int) = 25 + ((p : Int) + 1 + 21 * rU M (a + 1) (25 + p)) by omega), if_pos (by decide)]
        rw [← hfin false (by rw [decide_eq_true c2, decide_eq_false c3]; rfl)]
        exact e0
    · have c2' : ¬ rU M (a + 1) (25 + p) ≤ 20 := c2
      rw [if_pos (by omega), ← hfin false (by rw [decide_eq_false c2]; rfl)]
      exact e0
  · have d1 : decide (25 + ((p : Int) + 1) ≤ (n : Int)) = false := decide_eq_false (by omega)
    rw [d1, if_pos (by decide)]
    have : ndW n (fun i => rU M (a + 1) i) (25 + p) = false := by unfold ndW; rw [decide_eq_false c1]; rfl
    rw [this]; rfl
