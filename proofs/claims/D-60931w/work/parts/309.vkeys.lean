/-! the reference's keys: five words in an array from a place on -/
def kV (V : VV) (e p : Nat) : KF := fun i => vI V e (p + i)
theorem kV_ok (V : VV) (e p : Nat) : kok (kV V e p) := fun _ _ => w32_vI
theorem lpK {V : VV} {e n p j : Nat} (h : mA e n) (hp : p + 5 ≤ n) (hn : n ≤ 1000000) (hj : j < 5) : lp (e : Int) ((p : Int) + (j : Int)) V = some (kV V e p j) := by
  have hw : w32 ((p : Int) + (j : Int)) = ((p + j : Nat) : Int) := by rw [w32_id (by omega) (by omega)]; omega
  exact lp_e h hw (by omega)
theorem alleq_kq {x y : KF} : (∀ i, i < 5 → x i = y i) ↔ kq x y := by
  unfold kq
  constructor
  · intro h; exact ⟨h 0 (by omega), h 1 (by omega), h 2 (by omega), h 3 (by omega), h 4 (by omega)⟩
  · rintro ⟨h0, h1, h2, h3, h4⟩ i hi
    have : i = 0 ∨ i = 1 ∨ i = 2 ∨ i = 3 ∨ i = 4 := by omega
    rcases this with rfl | rfl | rfl | rfl | rfl <;> assumption
def eqs (x y : KF) : Nat → Bool
  | 0 => true
  | j + 1 => eqs x y j && decide (x j = y j)
theorem eqs5 {x y : KF} : eqs x y 5 = true ↔ kq x y := by
  unfold kq
  simp only [eqs, Bool.and_eq_true, decide_eq_true_eq]
  constructor
  · rintro ⟨⟨⟨⟨⟨_, h0⟩, h1⟩, h2⟩, h3⟩, h4⟩; exact ⟨h0, h1, h2, h3, h4⟩
  · rintro ⟨h0, h1, h2, h3, h4⟩; exact ⟨⟨⟨⟨⟨trivial, h0⟩, h1⟩, h2⟩, h3⟩, h4⟩
theorem e_same {V : VV} {e n p e' n' p' : Nat} (h : mA e n) (hp : p + 5 ≤ n) (hn : n ≤ 1000000) (h' : mA e' n') (hp' : p' + 5 ≤ n') (hn' : n' ≤ 1000000) :
    f_X16_same (e : Int) (p : Int) (e' : Int) (p' : Int) V = some (if eqs (kV V e p) (kV V e' p') 5 = true then 1 else 0) := by
  have stp : ∀ j : Nat, j < 5 → b_X16_same_6 (e : Int) (p : Int) (e' : Int) (p' : Int) (if eqs (kV V e p) (kV V e' p') j = true then 1 else 0) ((j : Nat) : Int) V = some (.inl ((if eqs (kV V e p) (kV V e' p') (j + 1) = true then 1 else 0), ((j + 1 : Nat) : Int))) := by
    intro j hj
    have hw := w32_j (j := j) (by omega)
    unfold b_X16_same_6 j_X16_same_36 j_X16_same_37
    rw [hw, w32_5, if_pos (by omega), lpK h hp hn hj, Option.bind_some, lpK h' hp' hn' hj, Option.bind_some]
    have hwx : w32 (kV V e p j) = kV V e p j := w32_vI
    have hwy : w32 (kV V e' p' j) = kV V e' p' j := w32_vI
    rw [hwx, hwy]
    cases ha : eqs (kV V e p) (kV V e' p') j with
    | true =>
      rw [if_pos rfl, if_neg (show ¬ w32 1 = 0 by decide)]
      by_cases hb : kV V e p j = kV V e' p' j
      · have : eqs (kV V e p) (kV V e' p') (j + 1) = true := by simp [eqs, ha, hb]
        rw [if_pos hb, if_pos this]
        rfl
      · have : ¬ eqs (kV V e p) (kV V e' p') (j + 1) = true := by simp [eqs, ha, hb]
        rw [if_neg hb, if_neg this]
        rfl
    | false =>
      have : ¬ eqs (kV V e p) (kV V e' p') (j + 1) = true := by simp [eqs, ha]
      rw [if_neg (show ¬ (false = true) by decide), if_pos (show w32 0 = 0 by decide), if_neg this]
      rfl
  have hE : b_X16_same_6 (e : Int) (p : Int) (e' : Int) (p' : Int) (if eqs (kV V e p) (kV V e' p') 5 = true then 1 else 0) ((5 : Nat) : Int) V = xit (some (if eqs (kV V e p) (kV V e' p') 5 = true then 1 else 0)) := by
    unfold b_X16_same_6
    rw [if_neg (by decide), bz_e]
    split
    · exact Or.inr rfl
    · exact Or.inl rfl
  unfold f_X16_same l_X16_same_6
  exact lp_seq (b := fun s : Int × Int => b_X16_same_6 (e : Int) (p : Int) (e' : Int) (p' : Int) s.1 s.2 V) (fun j => ((if eqs (kV V e p) (kV V e' p') j = true then 1 else 0), ((j : Nat) : Int))) 5 stp hE FU 0 (by decide) (by decide)
/-- five words copied -/
def kput (V : VV) (e p e' p' : Nat) : VV := fun a j => if a = e ∧ p ≤ j ∧ j < p + 5 then vI V e' (p' + (j - p)) else V a j
theorem e_put {V : VV} {e n p e' n' p' : Nat} (h : mA e n) (hp : p + 5 ≤ n) (hn : n ≤ 1000000) (h' : mA e' n') (hp' : p' + 5 ≤ n') (hn' : n' ≤ 1000000) (hap : e ≠ e' ∨ p = p' ∨ p + 5 ≤ p' ∨ p' + 5 ≤ p) :
    f_X16_put (e : Int) (p : Int) (e' : Int) (p' : Int) V = some (kput V e p e' p') := by
  let W : Nat → VV := fun t a j => if a = e ∧ p ≤ j ∧ j < p + t then vI V e' (p' + (j - p)) else V a j
  have stp : ∀ t : Nat, t < 5 → b_X16_put_3 (e : Int) (p : Int) (e' : Int) (p' : Int) ((t : Nat) : Int) (W t) = some (.inl (((t + 1 : Nat) : Int), W (t + 1))) := by
    intro t ht
    have hw := w32_j (j := t) (by omega)
    have hw2 : w32 ((p : Int) + (t : Int)) = ((p + t : Nat) : Int) := by rw [w32_id (by omega) (by omega)]; omega
    have hr : kV (W t) e' p' t = vI V e' (p' + t) := by
      show w32 (W t e' (p' + t)) = w32 (V e' (p' + t))
      show w32 (if e' = e ∧ p ≤ p' + t ∧ p' + t < p + t then vI V e' (p' + (p' + t - p)) else V e' (p' + t)) = _
      rw [if_neg]
      rintro ⟨q1, q2, q3⟩
      rcases hap with q | q | q | q
      · exact q q1.symm
      · omega
      · omega
      · omega
    unfold b_X16_put_3
    rw [hw, w32_5, if_pos (by omega), lpK h' hp' hn' ht, Option.bind_some, sp_e h hw2 (by omega), Option.bind_some, hr]
    show some (Sum.inl (((t : Int) + 1), _)) = _
    have : st2 (W t) e (p + t) (vI V e' (p' + t)) = W (t + 1) := by
      funext a j
      show (if a = e ∧ j = p + t then vI V e' (p' + t) else (if a = e ∧ p ≤ j ∧ j < p + t then vI V e' (p' + (j - p)) else V a j)) = if a = e ∧ p ≤ j ∧ j < p + (t + 1) then vI V e' (p' + (j - p)) else V a j
      by_cases c1 : a = e ∧ j = p + t
      · rw [if_pos c1, if_pos ⟨c1.1, by omega, by omega⟩, show j - p = t by omega]
      · rw [if_neg c1]
        by_cases c2 : a = e ∧ p ≤ j ∧ j < p + t
        · rw [if_pos c2, if_pos ⟨c2.1, c2.2.1, by omega⟩]
        · rw [if_neg c2, if_neg (fun q => by
            by_cases hj : j = p + t
            · exact c1 ⟨q.1, hj⟩
            · exact c2 ⟨q.1, q.2.1, by omega⟩)]
    rw [this]
    rfl
  have h0 : W 0 = V := by
    funext a j
    show (if a = e ∧ p ≤ j ∧ j < p + 0 then _ else V a j) = V a j
    rw [if_neg (fun q => by omega)]
  unfold f_X16_put l_X16_put_3
  have := lp_seq (b := fun s : Int × VV => b_X16_put_3 (e : Int) (p : Int) (e' : Int) (p' : Int) s.1 s.2) (x := some (W 5)) (fun t => (((t : Nat) : Int), W t)) 5 stp (by
    show b_X16_put_3 _ _ _ _ ((5 : Nat) : Int) (W 5) = _
    unfold b_X16_put_3
    rw [if_neg (by decide)]) FU 0 (by decide) (by decide)
  simp only [h0] at this
  exact this
theorem kput_vI {V : VV} {e p e' p' a j : Nat} : vI (kput V e p e' p') a j = if a = e ∧ p ≤ j ∧ j < p + 5 then vI V e' (p' + (j - p)) else vI V a j := by
  show w32 (if a = e ∧ p ≤ j ∧ j < p + 5 then vI V e' (p' + (j - p)) else V a j) = _
  split
  · exact w32_vI
  · rfl
theorem e_common {V : VV} {e n p e' n' p' : Nat} (h : mA e n) (hp : p + 5 ≤ n) (hn : n ≤ 1000000) (h' : mA e' n') (hp' : p' + 5 ≤ n') (hn' : n' ≤ 1000000) :
    f_X16_common (e : Int) (p : Int) (e' : Int) (p' : Int) V = some (kcom (kV V e p) (kV V e' p')) := by
  let x := kV V e p
  let y := kV V e' p'
  have n0 : ∀ {z : Int}, z = 0 → nlz z = 32 := fun {z} q => by rw [q]; decide
  have hB : ∀ j, j < 5 → b_X16_common_6 (e : Int) (p : Int) (e' : Int) (p' : Int) (32 * ((j : Nat) : Int)) ((j : Nat) : Int) V = if decide (bxor (x j) (y j) = 0) = true then cnt (32 * ((j + 1 : Nat) : Int), ((j + 1 : Nat) : Int)) else xit (some (32 * (j : Int) + nlz (bxor (x j) (y j)))) := by
    intro j hj
    have hw := w32_j (j := j) (by omega)
    unfold b_X16_common_6
    rw [hw, w32_5, if_pos (by omega), lpK h hp hn hj, Option.bind_some, lpK h' hp' hn' hj, Option.bind_some, e_nlz, Option.bind_some, w32_bxor]
    by_cases hq : bxor (x j) (y j) = 0
    · have hq' : bxor (kV V e p j) (kV V e' p' j) = 0 := hq
      rw [if_pos hq', if_pos (decide_eq_true hq), n0 hq']
      have e1 : 32 * (j : Int) + 32 = 32 * ((j + 1 : Nat) : Int) := by omega
      rw [e1]; rfl
    · have hq' : ¬ bxor (kV V e p j) (kV V e' p' j) = 0 := hq
      rw [if_neg hq', if_neg (by simpa using hq)]
  have hE : b_X16_common_6 (e : Int) (p : Int) (e' : Int) (p' : Int) (32 * ((5 : Nat) : Int)) ((5 : Nat) : Int) V = xit (some 160) := by
    unfold b_X16_common_6
    rw [if_neg (by decide)]; rfl
  unfold f_X16_common l_X16_common_6
  refine Eq.trans (lp_srch (b := fun s : Int × Int => b_X16_common_6 (e : Int) (p : Int) (e' : Int) (p' : Int) s.1 s.2 V) (fun j : Nat => (32 * (j : Int), (j : Int))) (fun j => decide (bxor (x j) (y j) = 0)) (fun j => some (32 * (j : Int) + nlz (bxor (x j) (y j)))) (some 160) 5 hB hE FU 0 (by decide) (by decide)) ?_
  show _ = some (kcom x y)
  unfold kcom
  simp only [srch, decide_eq_true_eq, Nat.zero_add, Nat.reduceAdd]
  by_cases h0 : bxor (x 0) (y 0) = 0
  · by_cases h1 : bxor (x 1) (y 1) = 0
    · by_cases h2 : bxor (x 2) (y 2) = 0
      · by_cases h3 : bxor (x 3) (y 3) = 0
        · by_cases h4 : bxor (x 4) (y 4) = 0
          · simp [h0, h1, h2, h3, h4]
          · simp [h0, h1, h2, h3, h4]
        · simp [h0, h1, h2, h3]
      · simp [h0, h1, h2]
    · simp [h0, h1]
  · simp [h0]
theorem ucmp_v {x y : Int} : w32 (ucmp x y) = ucmp x y := by unfold ucmp; split; decide; split <;> decide
/-- the first word that differs decides, as the numbers do -/
theorem num5 {a0 a1 a2 a3 a4 b0 b1 b2 b3 b4 : Nat} (ha1 : a1 < 4294967296) (ha2 : a2 < 4294967296) (ha3 : a3 < 4294967296) (ha4 : a4 < 4294967296) (hb1 : b1 < 4294967296) (hb2 : b2 < 4294967296) (hb3 : b3 < 4294967296) (hb4 : b4 < 4294967296) :
    (if a0 = b0 then if a1 = b1 then if a2 = b2 then if a3 = b3 then a4 < b4 else a3 < b3 else a2 < b2 else a1 < b1 else a0 < b0) ↔ a0 * 340282366920938463463374607431768211456 + a1 * 79228162514264337593543950336 + a2 * 18446744073709551616 + a3 * 4294967296 + a4 < b0 * 340282366920938463463374607431768211456 + b1 * 79228162514264337593543950336 + b2 * 18446744073709551616 + b3 * 4294967296 + b4 := by
  split
  · split
    · split
      · split <;> omega
      · omega
    · omega
  · omega
theorem srch_cmp {β : Type} {u v : Nat → Nat} {A B : β} : srch (fun j => decide (u j = v j)) (fun j => if u j < v j then A else B) B 5 0 = if (if u 0 = v 0 then if u 1 = v 1 then if u 2 = v 2 then if u 3 = v 3 then u 4 < v 4 else u 3 < v 3 else u 2 < v 2 else u 1 < v 1 else u 0 < v 0) then A else B := by
  simp only [srch, decide_eq_true_eq, Nat.zero_add, Nat.reduceAdd]
  by_cases h0 : u 0 = v 0
  · by_cases h1 : u 1 = v 1
    · by_cases h2 : u 2 = v 2
      · by_cases h3 : u 3 = v 3
        · by_cases h4 : u 4 = v 4
          · simp [h0, h1, h2, h3, h4]
          · simp [h0, h1, h2, h3, h4]
        · simp [h0, h1, h2, h3]
      · simp [h0, h1, h2]
    · simp [h0, h1]
  · simp [h0]
theorem e_nearer {V : VV} {e n p e' n' p' e'' n'' p'' : Nat} (h : mA e n) (hp : p + 5 ≤ n) (hn : n ≤ 1000000) (h' : mA e' n') (hp' : p' + 5 ≤ n') (hn' : n' ≤ 1000000) (h'' : mA e'' n'') (hp'' : p'' + 5 ≤ n'') (hn'' : n'' ≤ 1000000) :
    f_X16_nearer (e : Int) (p : Int) (e' : Int) (p' : Int) (e'' : Int) (p'' : Int) V = some (if kdst (kV V e p) (kV V e'' p'') < kdst (kV V e' p') (kV V e'' p'') then 1 else 0) := by
  let u : Nat → Nat := fun j => u32 (bxor (kV V e p j) (kV V e'' p'' j))
  let v : Nat → Nat := fun j => u32 (bxor (kV V e' p' j) (kV V e'' p'' j))
  have hB : ∀ j, j < 5 → b_X16_nearer_3 (e : Int) (p : Int) (e' : Int) (p' : Int) (e'' : Int) (p'' : Int) ((j : Nat) : Int) V = if decide (u j = v j) = true then cnt ((j + 1 : Nat) : Int) else xit (if u j < v j then some 1 else some 0) := by
    intro j hj
    have hw := w32_j (j := j) (by omega)
    unfold b_X16_nearer_3 j_X16_nearer_49 j_X16_nearer_59
    rw [hw, w32_5, if_pos (by omega), lpK h hp hn hj, Option.bind_some, lpK h'' hp'' hn'' hj, Option.bind_some, lpK h' hp' hn' hj, Option.bind_some, Option.bind_some, e_order, Option.bind_some, ucmp_v]
    show (if ucmp (bxor (kV V e p j) (kV V e'' p'' j)) (bxor (kV V e' p' j) (kV V e'' p'' j)) = 0 then _ else _) = _
    have hu : ucmp (bxor (kV V e p j) (kV V e'' p'' j)) (bxor (kV V e' p' j) (kV V e'' p'' j)) = if u j < v j then -1 else if u j = v j then 0 else 1 := rfl
    rw [hu]
    by_cases hq : u j = v j
    · have hnl : ¬ u j < v j := by rw [hq]; exact Nat.lt_irrefl _
      rw [if_neg hnl, if_pos hq, if_pos rfl, if_pos (decide_eq_true hq)]; rfl
    · rw [if_neg (show ¬ decide (u j = v j) = true by simpa using hq)]
      by_cases hl : u j < v j
      · rw [if_pos hl, if_neg (show ¬ (-1 : Int) = 0 by decide), if_pos (show (-1 : Int) < 0 by decide), if_pos hl, bz_e (Or.inr rfl)]
      · rw [if_neg hl, if_neg hq, if_neg (show ¬ (1 : Int) = 0 by decide), if_neg (show ¬ (1 : Int) < 0 by decide), if_neg hl, bz_e (Or.inl rfl)]
  have hE : b_X16_nearer_3 (e : Int) (p : Int) (e' : Int) (p' : Int) (e'' : Int) (p'' : Int) ((5 : Nat) : Int) V = xit (some 0) := by
    unfold b_X16_nearer_3
    rw [if_neg (by decide)]
  unfold f_X16_nearer l_X16_nearer_3
  refine Eq.trans (lp_srch (b := fun s : Int => b_X16_nearer_3 (e : Int) (p : Int) (e' : Int) (p' : Int) (e'' : Int) (p'' : Int) s V) (fun j : Nat => (j : Int)) (fun j => decide (u j = v j)) (fun j => if u j < v j then some 1 else some 0) (some 0) 5 hB hE FU 0 (by decide) (by decide)) ?_
  refine Eq.trans srch_cmp ?_
  have hk := num5 (a0 := u 0) (b0 := v 0) (u32_lt (bxor (kV V e p 1) (kV V e'' p'' 1))) (u32_lt (bxor (kV V e p 2) (kV V e'' p'' 2))) (u32_lt (bxor (kV V e p 3) (kV V e'' p'' 3))) (u32_lt (bxor (kV V e p 4) (kV V e'' p'' 4))) (u32_lt (bxor (kV V e' p' 1) (kV V e'' p'' 1))) (u32_lt (bxor (kV V e' p' 2) (kV V e'' p'' 2))) (u32_lt (bxor (kV V e' p' 3) (kV V e'' p'' 3))) (u32_lt (bxor (kV V e' p' 4) (kV V e'' p'' 4)))
  by_cases hc : kdst (kV V e p) (kV V e'' p'') < kdst (kV V e' p') (kV V e'' p'')
  · rw [if_pos hc]; exact if_pos (hk.mpr hc)
  · rw [if_neg hc]; exact if_neg (fun q => hc (hk.mp q))
theorem e_below {V : VV} {e n p e' n' p' : Nat} (h : mA e n) (hp : p + 5 ≤ n) (hn : n ≤ 1000000) (h' : mA e' n') (hp' : p' + 5 ≤ n') (hn' : n' ≤ 1000000) :
    f_X16_below (e : Int) (p : Int) (e' : Int) (p' : Int) V = some (if kval (kV V e p) < kval (kV V e' p') then 1 else 0) := by
  let u : Nat → Nat := fun j => u32 (kV V e p j)
  let v : Nat → Nat := fun j => u32 (kV V e' p' j)
  have hB : ∀ j, j < 5 → b_X16_below_3 (e : Int) (p : Int) (e' : Int) (p' : Int) ((j : Nat) : Int) V = if decide (u j = v j) = true then cnt ((j + 1 : Nat) : Int) else xit (if u j < v j then some 1 else some 0) := by
    intro j hj
    have hw := w32_j (j := j) (by omega)
    unfold b_X16_below_3 j_X16_below_31 j_X16_below_41
    rw [hw, w32_5, if_pos (by omega), lpK h hp hn hj, Option.bind_some, lpK h' hp' hn' hj, Option.bind_some, e_order, Option.bind_some, ucmp_v]
    have hu : ucmp (kV V e p j) (kV V e' p' j) = if u j < v j then -1 else if u j = v j then 0 else 1 := rfl
    rw [hu]
    by_cases hq : u j = v j
    · have hnl : ¬ u j < v j := by rw [hq]; exact Nat.lt_irrefl _
      rw [if_neg hnl, if_pos hq, if_pos rfl, if_pos (decide_eq_true hq)]; rfl
    · rw [if_neg (show ¬ decide (u j = v j) = true by simpa using hq)]
      by_cases hl : u j < v j
      · rw [if_pos hl, if_neg (show ¬ (-1 : Int) = 0 by decide), if_pos (show (-1 : Int) < 0 by decide), if_pos hl, bz_e (Or.inr rfl)]
      · rw [if_neg hl, if_neg hq, if_neg (show ¬ (1 : Int) = 0 by decide), if_neg (show ¬ (1 : Int) < 0 by decide), if_neg hl, bz_e (Or.inl rfl)]
  have hE : b_X16_below_3 (e : Int) (p : Int) (e' : Int) (p' : Int) ((5 : Nat) : Int) V = xit (some 0) := by
    unfold b_X16_below_3
    rw [if_neg (by decide)]
  unfold f_X16_below l_X16_below_3
  refine Eq.trans (lp_srch (b := fun s : Int => b_X16_below_3 (e : Int) (p : Int) (e' : Int) (p' : Int) s V) (fun j : Nat => (j : Int)) (fun j => decide (u j = v j)) (fun j => if u j < v j then some 1 else some 0) (some 0) 5 hB hE FU 0 (by decide) (by decide)) ?_
  refine Eq.trans srch_cmp ?_
  have hk := num5 (a0 := u 0) (b0 := v 0) (u32_lt (kV V e p 1)) (u32_lt (kV V e p 2)) (u32_lt (kV V e p 3)) (u32_lt (kV V e p 4)) (u32_lt (kV V e' p' 1)) (u32_lt (kV V e' p' 2)) (u32_lt (kV V e' p' 3)) (u32_lt (kV V e' p' 4))
  by_cases hc : kval (kV V e p) < kval (kV V e' p')
  · rw [if_pos hc]; exact if_pos (hk.mpr hc)
  · rw [if_neg hc]; exact if_neg (fun q => hc (hk.mp q))
