theorem e_arePostings {M : MM} {a n : Nat} (h : isP M a) (hn : rI M a 1 = (n : Int)) (hn4 : n ≤ 460) {p w : Nat} (hp : p ≤ 100) (hw0 : w = 2 ∨ w = 3) {lo hi : Int} (hlo : 0 ≤ lo ∧ lo ≤ 100) (hhi : 0 ≤ hi ∧ hi ≤ 30) : f_X4_arePostings (a : Int) (p : Int) lo hi (w : Int) M = some (b2i (psW n (fun i => rU M (a + 1) i) (25 + p) lo hi w)) := by
  let f : Nat → Int := fun i => rU M (a + 1) i
  have hf1 := @rU_lo M (a + 1) (25 + p)
  have hf2 := @rU_hi M (a + 1) (25 + p)
  have hw2 : w32 (w : Int) = (w : Int) := w32_j (j := w) (by omega)
  unfold f_X4_arePostings
  rw [ck_e h.1, e_isAtLeast h hn (by omega) (by omega), Option.bind_some, w32_b2i]
  by_cases c1 : 25 + p < n
  · have d1 : decide (25 + ((p : Int) + 1) ≤ (n : Int)) = true := decide_eq_true (by omega)
    rw [d1, if_neg (by decide), ck_e h.1, e_get1 (p := 25 + p) h (by omega) (by omega), Option.bind_some, w32_rU, w32_id (z := lo) (by omega) (by omega), w32_id (z := hi) (by omega) (by omega)]
    have loop : ∀ g : Bool, (g = true → (rU M (a + 1) (25 + p) ≤ hi ∧ (n : Int) = (25 + p : Nat) + 1 + (w : Int) * rU M (a + 1) (25 + p))) → j_X4_arePostings_56 (a : Int) (p : Int) (w : Int) (rU M (a + 1) (25 + p)) (b2i g) M = some (b2i (g && alP (okRw f (25 + p + 1) w) (f (25 + p)).toNat)) := by
      intro g hg
      unfold j_X4_arePostings_56 l_X4_arePostings_61
      have hx : ∀ k : Nat, b_X4_arePostings_61 (a : Int) (p : Int) (w : Int) (rU M (a + 1) (25 + p)) 0 (k : Int) M = xit (some 0) := by
        intro k
        unfold b_X4_arePostings_61 j_X4_arePostings_159
        split
        · rfl
        · rfl
      cases g with
      | false => exact lpN_end (b := fun s : Int × Int => b_X4_arePostings_61 (a : Int) (p : Int) (w : Int) (rU M (a + 1) (25 + p)) s.1 s.2 M) (s := (0, 0)) (by decide) (hx 0)
      | true =>
        obtain ⟨g1, g2⟩ := hg rfl
        have hm : ((f (25 + p)).toNat : Int) = rU M (a + 1) (25 + p) := Int.toNat_of_nonneg hf1
        have hlen : n = 25 + p + 1 + w * (f (25 + p)).toNat := by
          have : (n : Int) = ((25 + p + 1 + w * (f (25 + p)).toNat : Nat) : Int) := by
            rw [Int.natCast_add, Int.natCast_mul, hm]; omega
          exact_mod_cast this
        have := lp_all (b := fun s : Int × Int => b_X4_arePostings_61 (a : Int) (p : Int) (w : Int) (rU M (a + 1) (25 + p)) s.1 s.2 M) (okRw f (25 + p + 1) w) (f (25 + p)).toNat (fun k hk => by
          have hw := w32_j (j := k) (by omega)
          have hq : w * k + w ≤ w * (f (25 + p)).toNat := by
            have := Nat.mul_le_mul_left w (show k + 1 ≤ (f (25 + p)).toNat by omega)
            rw [Nat.mul_add, Nat.mul_one] at this
            exact this
          have hq0 : 25 + p + 1 + w * k + 1 < 460 := by omega
          have i0 : 25 + (p : Int) + 1 + (w : Int) * (k : Int) = ((25 + p + 1 + w * k : Nat) : Int) := by
            rw [Int.natCast_add, Int.natCast_mul]; omega
          show b_X4_arePostings_61 (a : Int) (p : Int) (w : Int) (rU M (a + 1) (25 + p)) 1 (k : Int) M = _
          unfold b_X4_arePostings_61 j_X4_arePostings_150 j_X4_arePostings_146 j_X4_arePostings_151
          rw [hw, w32_rU, if_pos (by omega), if_neg (show ¬ w32 1 = 0 by decide), ck_e h.1, i0, e_get1 (p := 25 + p + 1 + w * k) h rfl (by omega), Option.bind_some, w32_rU, show w32 32 = 32 by decide, ck_e h.1, e_get1 (p := 25 + p + 1 + w * k + 1) h (by omega) (by omega), Option.bind_some, w32_rU, show w32 16 = 16 by decide, hw2, show w32 2 = 2 by decide]
          by_cases b1 : f (25 + p + 1 + w * k) < 32
          · have b1' : rU M (a + 1) (25 + p + 1 + w * k) < 32 := b1
            rw [if_pos b1']
            by_cases b2 : f (25 + p + 1 + w * k + 1) < 16
            · have b2' : rU M (a + 1) (25 + p + 1 + w * k + 1) < 16 := b2
              rw [if_pos b2']
              by_cases b3 : w = 2
              · have : okRw f (25 + p + 1) w k = true := by unfold okRw; rw [decide_eq_true b1, decide_eq_true b2, decide_eq_true b3]; rfl
                rw [if_pos (by omega), this]; rfl
              · have hw3 : w = 3 := by omega
                rw [if_neg (by omega), ck_e h.1, e_get1 (p := 25 + p + 1 + w * k + 2) h (by omega) (by omega), Option.bind_some, w32_rU, show w32 1 = 1 by decide]
                by_cases b4 : 0 < f (25 + p + 1 + w * k + 2)
                · have b4' : 0 < rU M (a + 1) (25 + p + 1 + w * k + 2) := b4
                  rw [if_neg (by omega), ck_e h.1, Option.bind_some, w32_rU, show w32 15 = 15 by decide]
                  by_cases b5 : f (25 + p + 1 + w * k + 2) < 16
                  · have b5' : rU M (a + 1) (25 + p + 1 + w * k + 2) < 16 := b5
                    have : okRw f (25 + p + 1) w k = true := by unfold okRw; rw [decide_eq_true b1, decide_eq_true b2, decide_eq_true b4, decide_eq_true b5]; simp
                    rw [if_neg (by omega), this]; rfl
                  · have b5' : ¬ rU M (a + 1) (25 + p + 1 + w * k + 2) < 16 := b5
                    have : okRw f (25 + p + 1) w k = false := by unfold okRw; rw [decide_eq_true b1, decide_eq_true b2, decide_eq_false b3, decide_eq_true b4, decide_eq_false b5]; rfl
                    rw [if_pos (by omega), this]; rfl
                · have b4' : ¬ 0 < rU M (a + 1) (25 + p + 1 + w * k + 2) := b4
                  have : okRw f (25 + p + 1) w k = false := by unfold okRw; rw [decide_eq_true b1, decide_eq_true b2, decide_eq_false b3, decide_eq_false b4]; rfl
                  rw [if_pos (by omega), this]; rfl
            · have b2' : ¬ rU M (a + 1) (25 + p + 1 + w * k + 1) < 16 := b2
              have : okRw f (25 + p + 1) w k = false := by unfold okRw; rw [decide_eq_false b2]; simp
              rw [if_neg b2', this]; rfl
          · have b1' : ¬ rU M (a + 1) (25 + p + 1 + w * k) < 32 := b1
            have : okRw f (25 + p + 1) w k = false := by unfold okRw; rw [decide_eq_false b1]; simp
            rw [if_neg b1', this]; rfl) (fun k _ => hx k) (by
          show b_X4_arePostings_61 (a : Int) (p : Int) (w : Int) (rU M (a + 1) (25 + p)) 1 ((f (25 + p)).toNat : Int) M = _
          rw [hm]
          unfold b_X4_arePostings_61
          rw [if_neg (by omega)]
          rfl) FU 0 (by omega) (by unfold FU; omega)
        rw [Bool.true_and]
        exact this
    unfold j_X4_arePostings_55
    have e0 := loop false (fun q => by cases q)
    have hfin : ∀ g : Bool, (decide (lo ≤ f (25 + p)) && decide (f (25 + p) ≤ hi) && decide ((n : Int) = (25 + p : Nat) + 1 + (w : Int) * f (25 + p))) = g → (g && alP (okRw f (25 + p + 1) w) (f (25 + p)).toNat) = psW n f (25 + p) lo hi w := by
      intro g hg
      unfold psW
      rw [decide_eq_true c1, Bool.true_and, ← hg]
    by_cases c0 : lo ≤ f (25 + p)
    · have c0' : lo ≤ rU M (a + 1) (25 + p) := c0
      rw [if_neg (by omega)]
      by_cases c2 : f (25 + p) ≤ hi
      · have c2' : rU M (a + 1) (25 + p) ≤ hi := c2
        have hb : (w : Int) * rU M (a + 1) (25 + p) ≤ 3 * 30 := by
          rcases hw0 with rfl | rfl <;> omega
        have hb0 : 0 ≤ (w : Int) * rU M (a + 1) (25 + p) := Int.mul_nonneg (by omega) hf1
        rw [if_neg (by omega), ck_e h.1, e_isLong h hn (by omega) (by omega), Option.bind_some, w32_b2i]
        by_cases c3 : (n : Int) = (25 + p : Nat) + 1 + (w : Int) * f (25 + p)
        · have c3' : (n : Int) = (25 + p : Nat) + 1 + (w : Int) * rU M (a + 1) (25 + p) := c3
          rw [decide_eq_true (show (n : Int) = 25 + ((p : Int) + 1 + (w : Int) * rU M (a + 1) (25 + p)) by omega), if_neg (by decide)]
          rw [← hfin true (by rw [decide_eq_true c0, decide_eq_true c2, decide_eq_true c3]; rfl)]
          exact loop true (fun _ => ⟨c2, c3⟩)
        · have c3' : ¬ (n : Int) = (25 + p : Nat) + 1 + (w : Int) * rU M (a + 1) (25 + p) := c3
          rw [decide_eq_false (show ¬ (n : Int) = 25 + ((p : Int) + 1 + (w : Int) * rU M (a + 1) (25 + p)) by omega), if_pos (by decide)]
          rw [← hfin false (by rw [decide_eq_false c3]; simp)]
          exact e0
      · have c2' : ¬ rU M (a + 1) (25 + p) ≤ hi := c2
        rw [if_pos (by omega), ← hfin false (by rw [decide_eq_false c2]; simp)]
        exact e0
    · have c0' : ¬ lo ≤ rU M (a + 1) (25 + p) := c0
      rw [if_pos (by omega), ← hfin false (by rw [decide_eq_false c0]; simp)]
      exact e0
  · have d1 : decide (25 + ((p : Int) + 1) ≤ (n : Int)) = false := decide_eq_false (by omega)
    rw [d1, if_pos (by decide)]
    have : psW n (fun i => rU M (a + 1) i) (25 + p) lo hi w = false := by unfold psW; rw [decide_eq_false c1]; rfl
    rw [this]; rfl
theorem e_areBits {M : MM} {a n : Nat} (h : isP M a) (hn : rI M a 1 = (n : Int)) (hn4 : n ≤ 460) {p : Nat} (hp : p ≤ 100) : f_X4_areBits (a : Int) (p : Int) M = some (b2i (btW n (fun i => rU M (a + 1) i) (25 + p))) := by
  let f : Nat → Int := fun i => rU M (a + 1) i
  have h1 := @rU_lo M (a + 1) (25 + p)
  have h2 := @rU_hi M (a + 1) (25 + p)
  have h3 := @rU_lo M (a + 1) (25 + p + 1)
  have h4 := @rU_hi M (a + 1) (25 + p + 1)
  have h5 := @rU_lo M (a + 1) (25 + p + 2)
  have h6 := @rU_hi M (a + 1) (25 + p + 2)
  have h5' : 0 ≤ rU M (a + 1) (25 + p + 1 + 1) := h5
  have h6' : rU M (a + 1) (25 + p + 1 + 1) < 256 := h6
  unfold f_X4_areBits
  rw [ck_e h.1, e_isAtLeast h hn (by omega) (by omega), Option.bind_some, w32_b2i]
  have z0 : j_X4_areBits_68 M = some 0 := by
    unfold j_X4_areBits_68 j_X4_areBits_69
    exact bz_e (Or.inl rfl)
  have z1 : j_X4_areBits_69 1 M = some 1 := by
    unfold j_X4_areBits_69
    exact bz_e (Or.inr rfl)
  by_cases c1 : 25 + p + 2 < n
  · have d1 : decide (25 + ((p : Int) + 3) ≤ (n : Int)) = true := decide_eq_true (by omega)
    rw [d1, if_neg (by decide), ck_e h.1, e_get1 (p := 25 + p) h (by omega) (by omega), Option.bind_some, ck_e h.1, e_get2 (p := 25 + p + 1) h (by omega) (by omega), Option.bind_some, w32_rU, show w32 1 = 1 by decide, show w32 8 = 8 by decide, show w32 290 = 290 by decide, z0, z1]
    show (if rU M (a + 1) (25 + p) < 1 then some 0 else _) = some (b2i (decide (25 + p + 2 < n) && decide (1 ≤ rU M (a + 1) (25 + p)) && decide (rU M (a + 1) (25 + p) ≤ 8) && decide (rU M (a + 1) (25 + p + 1) * 256 + rU M (a + 1) (25 + p + 2) ≤ 290) && decide ((n : Int) = (25 + p : Nat) + 3 + (rU M (a + 1) (25 + p + 1) * 256 + rU M (a + 1) (25 + p + 2)))))
    rw [w32_id (z := rU M (a + 1) (25 + p + 1) * 256 + rU M (a + 1) (25 + p + 1 + 1)) (by omega) (by omega), decide_eq_true c1]
    show (if rU M (a + 1) (25 + p) < 1 then some 0 else if 8 < rU M (a + 1) (25 + p) then some 0 else if 290 < rU M (a + 1) (25 + p + 1) * 256 + rU M (a + 1) (25 + p + 2) then some 0 else ck 4 (a : Int) M ((f_X4_isLong (a : Int) ((p : Int) + 3 + (rU M (a + 1) (25 + p + 1) * 256 + rU M (a + 1) (25 + p + 2))) M).bind _)) = _
    by_cases e1 : 1 ≤ rU M (a + 1) (25 + p)
    · by_cases e2 : rU M (a + 1) (25 + p) ≤ 8
      · by_cases e3 : rU M (a + 1) (25 + p + 1) * 256 + rU M (a + 1) (25 + p + 2) ≤ 290
        · rw [if_neg (by omega), if_neg (by omega), if_neg (by omega), ck_e h.1, e_isLong h hn (by omega) (by omega), Option.bind_some, w32_b2i, decide_eq_true e1, decide_eq_true e2, decide_eq_true e3]
          by_cases e4 : (n : Int) = (25 + p : Nat) + 3 + (rU M (a + 1) (25 + p + 1) * 256 + rU M (a + 1) (25 + p + 2))
          · rw [decide_eq_true e4, decide_eq_true (show (n : Int) = 25 + ((p : Int) + 3 + (rU M (a + 1) (25 + p + 1) * 256 + rU M (a + 1) (25 + p + 2))) by omega)]; rfl
          · rw [decide_eq_false e4, decide_eq_false (show ¬ (n : Int) = 25 + ((p : Int) + 3 + (rU M (a + 1) (25 + p + 1) * 256 + rU M (a + 1) (25 + p + 2))) by omega)]; rfl
        · rw [if_neg (by omega), if_neg (by omega), if_pos (by omega), decide_eq_false e3]; simp [b2i]
      · rw [if_neg (by omega), if_pos (by omega), decide_eq_false e2]; simp [b2i]
    · rw [if_pos (by omega), decide_eq_false e1]; simp [b2i]
  · have d1 : decide (25 + ((p : Int) + 3) ≤ (n : Int)) = false := decide_eq_false (by omega)
    rw [d1, if_pos (by decide)]
    have : btW n (fun i => rU M (a + 1) i) (25 + p) = false := by unfold btW; rw [decide_eq_false c1]; rfl
    rw [this]; rfl
