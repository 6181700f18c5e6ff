def wellT (n : Nat) (f : Nat → Int) (t : Int) : Bool :=
  if t = 1 ∨ t = 2 ∨ t = 8 ∨ t = 15 then decide (n = 25) else if t = 3 ∨ t = 5 ∨ t = 9 then decide (n = 45) else if t = 4 then ndW n f 25 else if t = 6 then ndW n f 27 else if t = 7 then psW n f 45 1 16 3 else if t = 10 then btW n f 27 else if t = 11 then btW n f 47 else if t = 12 then decide (f 25 < 2) && psW n f 26 0 30 3 else if t = 13 then psW n f 45 1 30 2 else if t = 14 then psW n f 25 0 30 3 else false
/-- n bytes f are a well formed datagram -/
def wellB (n : Nat) (f : Nat → Int) : Bool := decide (25 ≤ n) && wellT n f (f 0)
theorem e_isWell {M : MM} {a n : Nat} (h : isP M a) (hn : rI M a 1 = (n : Int)) (hn4 : n ≤ 460) : f_X4_isWell (a : Int) M = some (b2i (wellB n (fun i => rU M (a + 1) i))) := by
  let f : Nat → Int := fun i => rU M (a + 1) i
  have t1 := @rU_lo M (a + 1) 0
  have t2 := @rU_hi M (a + 1) 0
  have a0 : f_X4_isAtLeast (a : Int) 0 M = some (b2i (decide (25 ≤ n))) := by
    rw [e_isAtLeast h hn (by decide) (by decide)]
    congr 2
    exact decide_eq_decide.mpr (by omega)
  have a1 : f_X4_isAtLeast (a : Int) 1 M = some (b2i (decide (26 ≤ n))) := by
    rw [e_isAtLeast h hn (by decide) (by decide)]
    congr 2
    exact decide_eq_decide.mpr (by omega)
  have l0 : f_X4_isLong (a : Int) 0 M = some (b2i (decide (n = 25))) := by
    rw [e_isLong h hn (by decide) (by decide)]
    congr 2
    exact decide_eq_decide.mpr (by omega)
  have l20 : f_X4_isLong (a : Int) 20 M = some (b2i (decide (n = 45))) := by
    rw [e_isLong h hn (by decide) (by decide)]
    congr 2
    exact decide_eq_decide.mpr (by omega)
  have n0 : f_X4_areNodes (a : Int) 0 M = some (b2i (ndW n f 25)) := e_areNodes h hn hn4 (p := 0) (by omega)
  have n2 : f_X4_areNodes (a : Int) 2 M = some (b2i (ndW n f 27)) := e_areNodes h hn hn4 (p := 2) (by omega)
  have p7 : f_X4_arePostings (a : Int) 20 1 16 3 M = some (b2i (psW n f 45 1 16 3)) := e_arePostings h hn hn4 (p := 20) (w := 3) (by omega) (Or.inr rfl) (by decide) (by decide)
  have p12 : f_X4_arePostings (a : Int) 1 0 30 3 M = some (b2i (psW n f 26 0 30 3)) := e_arePostings h hn hn4 (p := 1) (w := 3) (by omega) (Or.inr rfl) (by decide) (by decide)
  have p13 : f_X4_arePostings (a : Int) 20 1 30 2 M = some (b2i (psW n f 45 1 30 2)) := e_arePostings h hn hn4 (p := 20) (w := 2) (by omega) (Or.inl rfl) (by decide) (by decide)
  have p14 : f_X4_arePostings (a : Int) 0 0 30 3 M = some (b2i (psW n f 25 0 30 3)) := e_arePostings h hn hn4 (p := 0) (w := 3) (by omega) (Or.inr rfl) (by decide) (by decide)
  have b10 : f_X4_areBits (a : Int) 2 M = some (b2i (btW n f 27)) := e_areBits h hn hn4 (p := 2) (by omega)
  have b11 : f_X4_areBits (a : Int) 22 M = some (b2i (btW n f 47)) := e_areBits h hn hn4 (p := 22) (by omega)
  have z0 : j_X4_isWell_172 M = some 0 := by
    unfold j_X4_isWell_172 j_X4_isWell_173
    exact bz_e (Or.inl rfl)
  have z1 : j_X4_isWell_173 1 M = some 1 := by
    unfold j_X4_isWell_173
    exact bz_e (Or.inr rfl)
  have g25 : f_X4_get (a : Int) 25 1 M = some (rU M (a + 1) 25) := e_get1 (i := 25) (p := 25) h rfl (by decide)
  have q12 : psW n f 26 0 30 3 = true → 26 ≤ n := by
    intro hq
    unfold psW at hq
    simp only [Bool.and_eq_true, decide_eq_true_eq] at hq
    omega
  unfold f_X4_isWell
  rw [ck_e h.1, a0, Option.bind_some, w32_b2i]
  by_cases c0 : 25 ≤ n
  · rw [decide_eq_true c0, if_neg (by decide), ck_e h.1, e_type h, Option.bind_some, w32_rU]
    have hw : wellB n f = wellT n f (rU M (a + 1) 0) := by unfold wellB; rw [decide_eq_true c0]; rfl
    show _ = some (b2i (wellB n f))
    rw [hw, l0, l20, n0, n2, p7, p13, p14, b10, b11, a1, p12, g25, z0, z1]
    simp only [ck_e h.1, Option.bind_some, bz_b2i, w32_b2i, w32_rU]
    generalize rU M (a + 1) 0 = t at t1 t2
    have : t = 1 ∨ t = 2 ∨ t = 3 ∨ t = 4 ∨ t = 5 ∨ t = 6 ∨ t = 7 ∨ t = 8 ∨ t = 9 ∨ t = 10 ∨ t = 11 ∨ t = 12 ∨ t = 13 ∨ t = 14 ∨ t = 15 ∨ (t < 1 ∨ 15 < t) := by omega
    rcases this with rfl | rfl | rfl | rfl | rfl | rfl | rfl | rfl | rfl | rfl | rfl | rfl | rfl | rfl | rfl | ht
    · rfl
    · rfl
    · rfl
    · rfl
    · rfl
    · rfl
    · rfl
    · rfl
    · rfl
    · rfl
    · rfl
    · show (if b2i (decide (26 ≤ n)) = 0 then some 0 else if rU M (a + 1) 25 < w32 2 then (if b2i (psW n f 26 0 30 3) = 0 then some 0 else some 1) else some 0) = some (b2i (decide (f 25 < 2) && psW n f 26 0 30 3))
      rw [show w32 2 = 2 by decide]
      by_cases d1 : 26 ≤ n
      · rw [decide_eq_true d1, if_neg (by decide)]
        by_cases d2 : f 25 < 2
        · have d2' : rU M (a + 1) 25 < 2 := d2
          rw [if_pos d2', decide_eq_true d2]
          cases psW n f 26 0 30 3 <;> rfl
        · have d2' : ¬ rU M (a + 1) 25 < 2 := d2
          rw [if_neg d2', decide_eq_false d2]; rfl
      · rw [decide_eq_false d1, if_pos (by decide)]
        cases hq : psW n f 26 0 30 3 with
        | true => exact absurd (q12 hq) d1
        | false => rw [Bool.and_false]; rfl
    · rfl
    · rfl
    · rfl
    · have hs : wellT n f t = false := by
        unfold wellT
        rw [if_neg (by omega), if_neg (by omega), if_neg (by omega), if_neg (by omega), if_neg (by omega), if_neg (by omega), if_neg (by omega), if_neg (by omega), if_neg (by omega), if_neg (by omega)]
      rw [hs]
      unfold swt
      exact if_neg (fun q => by
        have q2 : t - 1 < 15 := q.2
        omega)
  · rw [decide_eq_false c0, if_pos (by decide)]
    have : wellB n (fun i => rU M (a + 1) i) = false := by unfold wellB; rw [decide_eq_false c0]; rfl
    rw [this]; rfl
/-! the reference's -/
theorem e_vNodes {V : VV} {p m : Nat} (hp : p + 21 * m ≤ 460) (hp2 : p ≤ 400) : f_X16_areNodes (p : Int) (m : Int) V = some (b2i (alP (okNd (fun i => vI V 271 i) p) m)) := by
  unfold f_X16_areNodes l_X16_areNodes_5
  have hwm : w32 (m : Int) = (m : Int) := w32_id (by omega) (by omega)
  refine lp_all2 (b := fun s : Int × Int => b_X16_areNodes_5 (p : Int) (m : Int) s.1 s.2 V) (okNd (fun i => vI V 271 i) p) m ?_ ?_ FU (by unfold FU; omega)
  · intro k hk g
    have hw := w32_j (j := k) (by omega)
    have i0 : w32 ((p : Int) + 21 * (k : Int) + 20) = ((p + 21 * k + 20 : Nat) : Int) := by rw [w32_id (by omega) (by omega)]; omega
    show b_X16_areNodes_5 (p : Int) (m : Int) (b2i g) (k : Int) V = _
    unfold b_X16_areNodes_5 j_X16_areNodes_39 j_X16_areNodes_40
    rw [hw, hwm, if_pos (by omega), w32_b2i]
    cases g with
    | false => rw [if_pos (by decide)]; rfl
    | true =>
      rw [if_neg (by decide), l2_e i0 (by omega), Option.bind_some, w32_vI, show w32 32 = 32 by decide]
      by_cases hc : vI V 271 (p + 21 * k + 20) < 32
      · have : okNd (fun i => vI V 271 i) p k = true := decide_eq_true hc
        rw [if_pos hc, this]; rfl
      · have : okNd (fun i => vI V 271 i) p k = false := decide_eq_false hc
        rw [if_neg hc, this]; rfl
  · intro g
    show b_X16_areNodes_5 (p : Int) (m : Int) (b2i g) (m : Int) V = _
    unfold b_X16_areNodes_5
    rw [if_neg (by omega), bz_b2i]
theorem e_vRows {V : VV} {p m w : Nat} (hw0 : w = 2 ∨ w = 3) (hp : p + w * m ≤ 460) (hp2 : p ≤ 400) : f_X16_areRows (p : Int) (m : Int) (w : Int) V = some (b2i (alP (okRw (fun i => vI V 271 i) p w) m)) := by
  have hm : m ≤ 460 := by rcases hw0 with rfl | rfl <;> omega
  have hwm : w32 (m : Int) = (m : Int) := w32_id (by omega) (by omega)
  have hww : w32 (w : Int) = (w : Int) := w32_id (by omega) (by omega)
  unfold f_X16_areRows l_X16_areRows_6
  refine lp_all2 (b := fun s : Int × Int => b_X16_areRows_6 (p : Int) (m : Int) (w : Int) s.1 s.2 V) (okRw (fun i => vI V 271 i) p w) m ?_ ?_ FU (by unfold FU; omega)
  · intro k hk g
    have hw := w32_j (j := k) (by omega)
    have hq : w * k + w ≤ w * m := by
      have := Nat.mul_le_mul_left w (show k + 1 ≤ m by omega)
      rw [Nat.mul_add, Nat.mul_one] at this
      exact this
    have i0 : (p : Int) + (w : Int) * (k : Int) = ((p + w * k : Nat) : Int) := by rw [Int.natCast_add, Int.natCast_mul]
    have j0 : w32 ((p + w * k : Nat) : Int) = ((p + w * k : Nat) : Int) := w32_id (by omega) (by omega)
    have j1 : w32 (((p + w * k : Nat) : Int) + 1) = ((p + w * k + 1 : Nat) : Int) := by rw [w32_id (by omega) (by omega)]; omega
    have j2 : w32 (((p + w * k : Nat) : Int) + 2) = ((p + w * k + 2 : Nat) : Int) := by rw [w32_id (by omega) (by omega)]; omega
    show b_X16_areRows_6 (p : Int) (m : Int) (w : Int) (b2i g) (k : Int) V = _
    unfold b_X16_areRows_6 j_X16_areRows_55 j_X16_areRows_56 j_X16_areRows_94 j_X16_areRows_98 j_X16_areRows_99
    rw [hw, hwm, if_pos (by omega), w32_b2i, i0]
    cases g with
    | false => rw [if_pos (by decide), if_pos (show w32 0 = 0 by decide)]; rfl
    | true =>
      rw [if_neg (by decide), if_pos (show w32 0 = 0 by decide), if_neg (show ¬ w32 1 = 0 by decide), l2_e j0 (by omega), Option.bind_some, l2_e j1 (by omega), Option.bind_some, w32_vI, w32_vI, show w32 32 = 32 by decide, show w32 16 = 16 by decide, hww, show w32 2 = 2 by decide]
      rw [Bool.true_and]
      by_cases b1 : vI V 271 (p + w * k) < 32
      · rw [if_pos b1]
        by_cases b2 : vI V 271 (p + w * k + 1) < 16
        · rw [if_pos b2]
          by_cases b3 : w = 2
          · have : okRw (fun i => vI V 271 i) p w k = true := by unfold okRw; rw [decide_eq_true b1, decide_eq_true b2, decide_eq_true b3]; rfl
            rw [if_pos (by omega), this]; rfl
          · have hw3 : w = 3 := by omega
            rw [if_neg (by omega), l2_e j2 (by omega), Option.bind_some, w32_vI, Option.bind_some]
            by_cases b4 : 0 < vI V 271 (p + w * k + 2)
            · rw [if_pos b4]
              by_cases b5 : vI V 271 (p + w * k + 2) < 16
              · have : okRw (fun i => vI V 271 i) p w k = true := by unfold okRw; rw [decide_eq_true b1, decide_eq_true b2, decide_eq_true b4, decide_eq_true b5]; simp
                rw [w32_vI, if_pos b5, this]; rfl
              · have : okRw (fun i => vI V 271 i) p w k = false := by unfold okRw; rw [decide_eq_true b1, decide_eq_true b2, decide_eq_false b3, decide_eq_true b4, decide_eq_false b5]; rfl
                rw [w32_vI, if_neg b5, this]; rfl
            · have : okRw (fun i => vI V 271 i) p w k = false := by unfold okRw; rw [decide_eq_true b1, decide_eq_true b2, decide_eq_false b3, decide_eq_false b4]; rfl
              rw [if_neg b4, this]; rfl
        · have : okRw (fun i => vI V 271 i) p w k = false := by unfold okRw; rw [decide_eq_false b2]; simp
          rw [if_neg b2, this]; rfl
      · have : okRw (fun i => vI V 271 i) p w k = false := by unfold okRw; rw [decide_eq_false b1]; simp
        rw [if_neg b1, this]; rfl
  · intro g
    show b_X16_areRows_6 (p : Int) (m : Int) (w : Int) (b2i g) (m : Int) V = _
    unfold b_X16_areRows_6
    rw [if_neg (by omega), bz_b2i]
