/-! the reference's memory by numbers: what simp runs by -/
section VTOOLS
variable {a b n j k i : Nat} {v : Int} {V W : VV}
theorem l2_n (hj : j < n) (hn : n ≤ 2147483647) : l2 a n (j : Int) V = some (vI V a j) := l2_e (w32_id (by omega) (by omega)) hj
theorem s2_n (hj : j < n) (hn : n ≤ 2147483647) : s2 a n (j : Int) v V = some (st2 V a j v) := s2_e (w32_id (by omega) (by omega)) hj
theorem s2z_n (hj : j < n) (hn : n ≤ 2147483647) (hv : v = 0 ∨ v = 1) : s2z a n (j : Int) v V = some (st2 V a j v) := s2z_e (w32_id (by omega) (by omega)) hj hv
theorem w32_nn (h : n ≤ 2147483647) : w32 (n : Int) = n := w32_id (by omega) (by omega)
theorem v156 (V : VV) (k : Nat) : w32 (V 156 k) = vI V 156 k := rfl
theorem vI_ne (h : ¬ (b = a ∧ j = k)) : vI (st2 V a k v) b j = vI V b j := by rw [vI_st2, if_neg h]
theorem vI_eq (h : j = k) : vI (st2 V a k v) a j = w32 v := by rw [vI_st2, if_pos ⟨rfl, h⟩]
theorem w32_0 : w32 0 = 0 := by decide
theorem w32_1 : w32 1 = 1 := by decide
theorem w32_m1 : w32 (-1) = -1 := by decide
theorem cadd : (i : Int) + (j : Int) = ((i + j : Nat) : Int) := by omega
theorem cadd1 : (i : Int) + 1 = ((i + 1 : Nat) : Int) := by omega
theorem cadd2 : (i : Int) + 2 = ((i + 2 : Nat) : Int) := by omega
theorem cadd3 : (i : Int) + 3 = ((i + 3 : Nat) : Int) := by omega
theorem cadd4 : (i : Int) + 4 = ((i + 4 : Nat) : Int) := by omega
theorem cadd20 : (i : Int) + 20 = ((i + 20 : Nat) : Int) := by omega
theorem cadd21 : (i : Int) + 21 = ((i + 21 : Nat) : Int) := by omega
theorem cadd30 : (i : Int) + 30 = ((i + 30 : Nat) : Int) := by omega
theorem cadd40 : (i : Int) + 40 = ((i + 40 : Nat) : Int) := by omega
theorem csub1 (h : 1 ≤ i) : (i : Int) - 1 = ((i - 1 : Nat) : Int) := by omega
theorem cdec1 (h : 1 ≤ i) : (i : Int) + (-1) = ((i - 1 : Nat) : Int) := by omega
theorem c2m : (2 : Int) * (j : Int) = ((2 * j : Nat) : Int) := by omega
theorem c3m : (3 : Int) * (j : Int) = ((3 * j : Nat) : Int) := by omega
theorem c4m : (4 : Int) * (j : Int) = ((4 * j : Nat) : Int) := by omega
theorem c5m : (5 : Int) * (j : Int) = ((5 * j : Nat) : Int) := by omega
theorem c6m : (6 : Int) * (j : Int) = ((6 * j : Nat) : Int) := by omega
theorem c12m : (12 : Int) * (j : Int) = ((12 * j : Nat) : Int) := by omega
theorem c15m : (15 : Int) * (j : Int) = ((15 * j : Nat) : Int) := by omega
theorem c21m : (21 : Int) * (j : Int) = ((21 * j : Nat) : Int) := by omega
theorem c40m : (40 : Int) * (j : Int) = ((40 * j : Nat) : Int) := by omega
theorem c64m : (64 : Int) * (j : Int) = ((64 * j : Nat) : Int) := by omega
theorem c65m : (65 : Int) * (j : Int) = ((65 * j : Nat) : Int) := by omega
theorem c180m : (180 : Int) * (j : Int) = ((180 * j : Nat) : Int) := by omega
theorem c200m : (200 : Int) * (j : Int) = ((200 * j : Nat) : Int) := by omega
theorem c290m : (290 : Int) * (j : Int) = ((290 * j : Nat) : Int) := by omega
theorem c350m : (350 : Int) * (j : Int) = ((350 * j : Nat) : Int) := by omega
theorem c460m : (460 : Int) * (j : Int) = ((460 * j : Nat) : Int) := by omega
theorem c1024m : (1024 : Int) * (j : Int) = ((1024 * j : Nat) : Int) := by omega
theorem c1100m : (1100 : Int) * (j : Int) = ((1100 * j : Nat) : Int) := by omega
theorem clt : (i : Int) < (j : Int) ↔ i < j := by omega
theorem cle : (i : Int) ≤ (j : Int) ↔ i ≤ j := by omega
theorem ceq : (i : Int) = (j : Int) ↔ i = j := by omega
theorem clt0 : (i : Int) < 0 ↔ False := ⟨fun h => by omega, False.elim⟩
theorem c0lt : 0 < (i : Int) ↔ 0 < i := by omega
theorem vI_lo : -2147483648 ≤ vI V a i := w32_lo _
theorem vI_hi : vI V a i ≤ 2147483647 := w32_hi _
end VTOOLS
/-- an array of places -/
def ArrN (V : VV) (a : Nat) (L : List Nat) : Prop := ∀ j, j < L.length → vI V a j = ((L.getD j 0 : Nat) : Int)
theorem ins_loop {ρ : Type} {b : Int × VV → Option ((Int × VV) ⊕ ρ)} {κ : Int → VV → Option ρ} {a : Nat} {V : VV} {L : List Nat} {lt : Nat → Bool} (hA : ArrN V a L) (hbig : ∀ j, j < L.length → L.getD j 0 ≤ 2147483647)
    (hb : ∀ j (W : VV), j ≤ L.length → ExV (fun q => q = a) V W → (∀ i, i < j → vI W a i = vI V a i) → b ((j : Int), W) = if 0 < j ∧ lt (L.getD (j - 1) 0) = true then cnt (((j - 1 : Nat) : Int), st2 W a j ((L.getD (j - 1) 0 : Nat) : Int)) else xit (κ (j : Int) W)) :
    ∀ fu, L.length < fu → ∃ W, lpN b fu ((L.length : Int), V) = κ ((bk lt 0 L L.length : Nat) : Int) W ∧ ExV (fun q => q = a) V W ∧ ∀ x : Nat, x ≤ 2147483647 → ArrN (st2 W a (bk lt 0 L L.length) (x : Int)) a (L.take (bk lt 0 L L.length) ++ x :: L.drop (bk lt 0 L L.length)) := by
  have key : ∀ p fu W, p ≤ L.length → p < fu → ExV (fun q => q = a) V W → (∀ i, i < p → vI W a i = vI V a i) → (∀ i, p < i → i ≤ L.length → vI W a i = ((L.getD (i - 1) 0 : Nat) : Int)) → ∃ W', lpN b fu ((p : Int), W) = κ ((bk lt 0 L p : Nat) : Int) W' ∧ ExV (fun q => q = a) V W' ∧ (∀ i, i < bk lt 0 L p → vI W' a i = vI V a i) ∧ (∀ i, bk lt 0 L p < i → i ≤ L.length → vI W' a i = ((L.getD (i - 1) 0 : Nat) : Int)) := by
    intro p
    induction p with
    | zero =>
      intro fu W h1 h2 h3 h4 h5
      obtain ⟨f, rfl⟩ : ∃ f, fu = f + 1 := ⟨fu - 1, by omega⟩
      have := hb 0 W (by omega) h3 (fun i hi => by omega)
      rw [if_neg (by omega)] at this
      exact ⟨W, lpN_xit this, h3, h4, h5⟩
    | succ p ih =>
      intro fu W h1 h2 h3 h4 h5
      obtain ⟨f, rfl⟩ : ∃ f, fu = f + 1 := ⟨fu - 1, by omega⟩
      have hs := hb (p + 1) W h1 h3 h4
      unfold bk
      by_cases c : lt (L.getD p 0) = true
      · rw [if_pos ⟨by omega, c⟩] at hs
        rw [if_pos c, lpN_cnt hs]
        have hx := hbig p (by omega)
        refine ih f _ (by omega) (by omega) (h3.trans (ExV.st rfl)) (fun i hi => ?_) (fun i hi hl => ?_)
        · rw [vI_ne (by omega)]; exact h4 i (by omega)
        · by_cases q : i = p + 1
          · rw [q, vI_eq rfl, show p + 1 - 1 = p from rfl, w32_nn hx]
          · rw [vI_ne (by omega)]; exact h5 i (by omega) hl
      · rw [if_neg (fun q => c q.2)] at hs
        rw [if_neg c]
        exact ⟨W, lpN_xit hs, h3, h4, h5⟩
  intro fu hfu
  obtain ⟨W, w1, w2, w3, w4⟩ := key L.length fu V (Nat.le_refl _) hfu ExV.refl (fun i hi => rfl) (fun i h1 h2 => by omega)
  have hle := bk_le lt 0 L L.length
  refine ⟨W, w1, w2, fun x hx j hj => ?_⟩
  have hlen : (L.take (bk lt 0 L L.length) ++ x :: L.drop (bk lt 0 L L.length)).length = L.length + 1 := by grind
  rw [hlen] at hj
  rw [vI_st2, getD_ins hle]
  by_cases c : j = bk lt 0 L L.length
  · rw [if_pos ⟨rfl, c⟩, w32_nn hx, if_neg (by omega), if_pos c]
  · rw [if_neg (fun q => c q.2)]
    by_cases c2 : j < bk lt 0 L L.length
    · rw [w3 j c2, hA j (by omega), if_pos c2]
    · rw [w4 j (by omega) (by omega), if_neg c2, if_neg c]
