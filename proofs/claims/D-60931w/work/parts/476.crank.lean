/-! rankings of the class -/
def gRk (M : MM) (k i : Nat) : It := (rI M (k + 1) i, rI M (k + 2) i, rI M (k + 3) i)
def RkS (M : MM) (k z : Nat) : Prop := (kd M k).1 = 5 ∧ rR M k 0 = ((k + 1 : Nat) : Int) ∧ kd M (k + 1) = (320, z) ∧ rR M k 1 = ((k + 2 : Nat) : Int) ∧ kd M (k + 2) = (336, z) ∧ rR M k 2 = ((k + 3 : Nat) : Int) ∧ kd M (k + 3) = (352, z)
def RkC (M : MM) (k z : Nat) (L : List It) : Prop := RkS M k z ∧ rI M k 3 = (L.length : Int) ∧ L.length ≤ z ∧ ∀ i, i < L.length → gRk M k i = L.getD i it0
def okR (x : It) : Prop := (0 ≤ x.1 ∧ x.1 < 32) ∧ (0 ≤ x.2.1 ∧ x.2.1 < 16) ∧ (0 ≤ x.2.2 ∧ x.2.2 ≤ 900)
section CRANK
variable {M M1 : MM} {k z : Nat} {L : List It} {x : It} {Z : Nat → Prop}
theorem RkS.ex (hx : Ex Z M M1) (h : RkS M k z) : RkS M1 k z := by
  obtain ⟨h1, h2, h3, h4, h5, h6, h7⟩ := h
  exact ⟨by rw [hx.kd]; exact h1, by rw [hx.rR]; exact h2, by rw [hx.kd]; exact h3, by rw [hx.rR]; exact h4, by rw [hx.kd]; exact h5, by rw [hx.rR]; exact h6, by rw [hx.kd]; exact h7⟩
def RA (k q : Nat) : Prop := q = k ∨ q = k + 1 ∨ q = k + 2 ∨ q = k + 3
theorem c_rkbegin (h : RkS M k z) : ∃ M', f_X5_begin (k : Int) M = some M' ∧ RkC M' k z [] ∧ Ex (RA k) M M' := by
  refine ⟨sI M k 3 0, ?_, ⟨h.ex (Ex.st (A := RA k) (Or.inl rfl)), by rw [rI_eq rfl]; rfl, Nat.zero_le _, fun i hi => by simp at hi⟩, Ex.st (A := RA k) (Or.inl rfl)⟩
  unfold f_X5_begin
  rw [pfi_e h.1, Option.bind_some]
theorem c_ahead {i : Nat} (h : RkC M k z L) (hz : z ≤ 1000) (hi : i < L.length) (hx : okR x) (ho : okR (L.getD i it0)) : f_X5_isAhead (k : Int) x.1 x.2.1 x.2.2 (i : Int) M = some (b2i (decide (rkM x < rkM (L.getD i it0)))) := by
  obtain ⟨⟨h1, h2, h3, h4, h5, h6, h7⟩, l1, l2, l3⟩ := h
  have e := l3 i hi
  obtain ⟨y, hy⟩ : ∃ y, y = L.getD i it0 := ⟨_, rfl⟩
  rw [← hy] at e ho ⊢
  have e1 : rI M (k + 1) i = y.1 := by rw [← e]; rfl
  have e2 : rI M (k + 2) i = y.2.1 := by rw [← e]; rfl
  have e3 : rI M (k + 3) i = y.2.2 := by rw [← e]; rfl
  have lt := rkM_lt (x := x) (y := y) hx ho
  have a1 : lai ((k + 1 : Nat) : Int) (i : Int) M = some y.1 := by rw [lai_e (j := i) h3 (by decide) (by decide) (w32_nn (by omega)) (by omega), e1]
  have a2 : lai ((k + 2 : Nat) : Int) (i : Int) M = some y.2.1 := by rw [lai_e (j := i) h5 (by decide) (by decide) (w32_nn (by omega)) (by omega), e2]
  have a3 : lai ((k + 3 : Nat) : Int) (i : Int) M = some y.2.2 := by rw [lai_e (j := i) h7 (by decide) (by decide) (w32_nn (by omega)) (by omega), e3]
  obtain ⟨x1, x2, x3⟩ := hx
  obtain ⟨y1, y2, y3⟩ := ho
  unfold f_X5_isAhead j_X5_isAhead_74 j_X5_isAhead_27
  rw [gfr_e h1, h6, Option.bind_some, a3, Option.bind_some, w32s (by omega), w32s (by omega)]
  by_cases c3 : x.2.2 = y.2.2
  · rw [if_pos c3, gfr_e h1, h2, Option.bind_some, a1, Option.bind_some, w32s (by omega), w32s (by omega)]
    by_cases c1 : x.1 = y.1
    · rw [if_pos c1, gfr_e h1, h4, Option.bind_some, a2, Option.bind_some, w32s (by omega), w32s (by omega)]
      by_cases c2 : x.2.1 < y.2.1
      · rw [if_pos c2, decide_eq_true (lt.mpr (by omega)), bz_e (Or.inr rfl)]; rfl
      · rw [if_neg c2, decide_eq_false (fun q => by have := lt.mp q; omega), bz_e (Or.inl rfl)]; rfl
    · rw [if_neg c1, Option.bind_some, a1, Option.bind_some, w32s (by omega)]
      by_cases c2 : x.1 < y.1
      · rw [if_pos c2, decide_eq_true (lt.mpr (by omega)), bz_e (Or.inr rfl)]; rfl
      · rw [if_neg c2, decide_eq_false (fun q => by have := lt.mp q; omega), bz_e (Or.inl rfl)]; rfl
  · rw [if_neg c3, Option.bind_some, a3, Option.bind_some, w32s (by omega)]
    by_cases c2 : y.2.2 < x.2.2
    · rw [if_pos c2, decide_eq_true (lt.mpr (by omega)), bz_e (Or.inr rfl)]; rfl
    · rw [if_neg c2, decide_eq_false (fun q => by have := lt.mp q; omega), bz_e (Or.inl rfl)]; rfl
/-- one is written to its place -/
theorem rk_put {i : Nat} (h : RkS M k z) (hi : i < z) (hz : z ≤ 1000) (v : It) (hv : w32 v.1 = v.1 ∧ w32 v.2.1 = v.2.1 ∧ w32 v.2.2 = v.2.2) : ∃ M', ((gfr 5 0 (k : Int) M).bind fun v1 => (sai v1 (i : Int) v.1 M).bind fun M1 => (gfr 5 1 (k : Int) M1).bind fun v2 => (sai v2 (i : Int) v.2.1 M1).bind fun M2 => (gfr 5 2 (k : Int) M2).bind fun v3 => (sai v3 (i : Int) v.2.2 M2).bind fun M3 => some M3) = some M' ∧ gRk M' k i = v ∧ (∀ j, j ≠ i → gRk M' k j = gRk M k j) ∧ (∀ j, rI M' k j = rI M k j) ∧ Ex (RA k) M M' ∧ M' = sI (sI (sI M (k + 1) i v.1) (k + 2) i v.2.1) (k + 3) i v.2.2 := by
  obtain ⟨h1, h2, h3, h4, h5, h6, h7⟩ := h
  refine ⟨sI (sI (sI M (k + 1) i v.1) (k + 2) i v.2.1) (k + 3) i v.2.2, ?_, ?_, fun j hj => ?_, fun j => ?_, ?_, rfl⟩
  · rw [gfr_e h1, h2, Option.bind_some, sai_e (j := i) h3 (by decide) (by decide) (w32_nn (by omega)) hi, Option.bind_some, gfr_e (by rw [kd_sI]; exact h1), rR_sI, h4, Option.bind_some, sai_e (j := i) (by rw [kd_sI]; exact h5) (by decide) (by decide) (w32_nn (by omega)) hi, Option.bind_some, gfr_e (by rw [kd_sI, kd_sI]; exact h1), rR_sI, rR_sI, h6, Option.bind_some, sai_e (j := i) (by rw [kd_sI, kd_sI]; exact h7) (by decide) (by decide) (w32_nn (by omega)) hi, Option.bind_some]
  · unfold gRk
    rw [rI_ne (show ¬ (k + 1 = k + 3 ∧ _) by omega), rI_ne (show ¬ (k + 1 = k + 2 ∧ _) by omega), rI_eq rfl, rI_ne (show ¬ (k + 2 = k + 3 ∧ _) by omega), rI_eq rfl, rI_eq rfl, hv.1, hv.2.1, hv.2.2]
  · unfold gRk
    rw [rI_ne (show ¬ (k + 1 = k + 3 ∧ _) by omega), rI_ne (show ¬ (k + 1 = k + 2 ∧ _) by omega), rI_ne (show ¬ (k + 1 = k + 1 ∧ j = i) by omega), rI_ne (show ¬ (k + 2 = k + 3 ∧ _) by omega), rI_ne (show ¬ (k + 2 = k + 2 ∧ j = i) by omega), rI_ne (show ¬ (k + 2 = k + 1 ∧ _) by omega), rI_ne (show ¬ (k + 3 = k + 3 ∧ j = i) by omega), rI_ne (show ¬ (k + 3 = k + 2 ∧ _) by omega), rI_ne (show ¬ (k + 3 = k + 1 ∧ _) by omega)]
  · rw [rI_ne (by omega), rI_ne (by omega), rI_ne (by omega)]
  · exact ((Ex.st (A := RA k) (Or.inr (Or.inl rfl))).trans (Ex.st (A := RA k) (Or.inr (Or.inr (Or.inl rfl))))).trans (Ex.st (A := RA k) (Or.inr (Or.inr (Or.inr rfl))))
/-- one comes to a ranking -/
theorem c_rkadd (h : RkC M k z L) (hz : 1 ≤ z ∧ z ≤ 1000) (hx : okR x) (ho : ∀ y, y ∈ L → okR y) (hs : SrtM rkM L) : ∃ M', f_X5_add (k : Int) x.1 x.2.1 x.2.2 M = some M' ∧ RkC M' k z ((insM rkM x L).take z) ∧ Ex (RA k) M M' := by
  obtain ⟨hS, l1, l2, l3⟩ := id h
  obtain ⟨h1, h2, h3, h4, h5, h6, h7⟩ := id hS
  obtain ⟨p, hp⟩ : ∃ p, p = bk (fun y => decide (rkM x < rkM y)) it0 L L.length := ⟨_, rfl⟩
  have ple : p ≤ L.length := by rw [hp]; exact bk_le _ _ _ _
  have ins : L.take p ++ x :: L.drop p = insM rkM x L := by rw [hp]; exact bk_ins hs
  -- the place
  have place : ∀ (j fu : Nat), j ≤ L.length → j < fu → lpN (fun s : Int => b_X5_add_6 (k : Int) x.1 x.2.1 x.2.2 s M) fu (j : Int) = j_X5_add_31 (k : Int) x.1 x.2.1 x.2.2 ((bk (fun y => decide (rkM x < rkM y)) it0 L j : Nat) : Int) M := by
    intro j
    induction j with
    | zero =>
      intro fu _ hf
      refine lpN_end (by omega) ?_
      show b_X5_add_6 (k : Int) x.1 x.2.1 x.2.2 ((0 : Nat) : Int) M = _
      unfold b_X5_add_6
      rw [if_neg (by decide)]
      rfl
    | succ j ih =>
      intro fu hj hf
      obtain ⟨fu', rfl⟩ : ∃ f, fu = f + 1 := ⟨fu - 1, by omega⟩
      have ha := c_ahead (i := j) h (by omega) (by omega) hx (ho _ (getD_mem (by omega)))
      have body : b_X5_add_6 (k : Int) x.1 x.2.1 x.2.2 ((j + 1 : Nat) : Int) M = if rkM x < rkM (L.getD j it0) then some (.inl (j : Int)) else xit (j_X5_add_31 (k : Int) x.1 x.2.1 x.2.2 ((j + 1 : Nat) : Int) M) := by
        unfold b_X5_add_6
        rw [w32_nn (by omega), if_pos (by omega), ck_e h1, show ((j + 1 : Nat) : Int) - 1 = (j : Int) from by omega, ha, Option.bind_some, w32_b2i]
        by_cases c : rkM x < rkM (L.getD j it0)
        · rw [decide_eq_true c, if_neg (by decide), if_pos c, show ((j + 1 : Nat) : Int) + (-1) = (j : Int) from by omega]; rfl
        · rw [decide_eq_false c, if_pos (by decide), if_neg c]
      by_cases c : rkM x < rkM (L.getD j it0)
      · rw [if_pos c] at body
        rw [lpN_cnt (b := fun s : Int => b_X5_add_6 (k : Int) x.1 x.2.1 x.2.2 s M) (s := ((j + 1 : Nat) : Int)) body, ih fu' (by omega) (by omega)]
        have : bk (fun y => decide (rkM x < rkM y)) it0 L (j + 1) = bk (fun y => decide (rkM x < rkM y)) it0 L j := by
          unfold bk
          rw [if_pos (by simpa using c)]
          cases j <;> rfl
        rw [this]
      · rw [if_neg c] at body
        have : bk (fun y => decide (rkM x < rkM y)) it0 L (j + 1) = j + 1 := by
          unfold bk
          rw [if_neg (by simpa using c)]
        rw [this]
        exact lpN_end (by omega) body
  have run : f_X5_add (k : Int) x.1 x.2.1 x.2.2 M = j_X5_add_31 (k : Int) x.1 x.2.1 x.2.2 (p : Int) M := by
    unfold f_X5_add l_X5_add_6
    rw [gfi_e h1, l1, Option.bind_some, place L.length FU (Nat.le_refl _) (by unfold FU; omega), hp]
  rw [run, ← ins]
  unfold j_X5_add_31
  rw [gfr_e h1, h6, Option.bind_some, aln_e (l := z) h7 (by decide) (by decide), Option.bind_some, w32_nn (by omega), w32_nn (by omega)]
  by_cases c : p = z
  · rw [if_pos (by omega)]
    refine ⟨M, rfl, ?_, .refl⟩
    have e : (L.take p ++ x :: L.drop p).take z = L := by
      have : L.length = p := by omega
      rw [List.take_append, List.length_take, show min p L.length = z from by omega, Nat.sub_self, List.take_zero, List.append_nil, List.take_take, show min z p = L.length from by omega, List.take_length]
    rw [e]; exact h
  · rw [if_neg (by omega)]
    obtain ⟨n', hn'⟩ : ∃ n', n' = min (L.length + 1) z := ⟨_, rfl⟩
    have jm : jmin ((L.length : Int) + 1) (z : Int) = (n' : Int) := by
      unfold jmin
      rw [w32_nn (by omega), show (L.length : Int) + 1 = ((L.length + 1 : Nat) : Int) from by omega, w32_nn (by omega)]
      split <;> omega
    rw [gfi_e h1, l1, Option.bind_some, Option.bind_some, aln_e (l := z) h7 (by decide) (by decide), Option.bind_some, jm, pfi_e h1, Option.bind_some]
    obtain ⟨M1, hM1⟩ : ∃ M1, M1 = sI M k 3 (n' : Int) := ⟨_, rfl⟩
    have x1 : Ex (RA k) M M1 := by rw [hM1]; exact Ex.st (A := RA k) (Or.inl rfl)
    have S1 : RkS M1 k z := hS.ex x1
    have i3 : rI M1 k 3 = (n' : Int) := by rw [hM1, rI_eq rfl, w32_nn (by omega)]
    have g1 : ∀ j, gRk M1 k j = gRk M k j := fun j => by
      unfold gRk
      rw [hM1, rI_ne (by omega), rI_ne (by omega), rI_ne (by omega)]
    rw [← hM1, gfi_e S1.1, i3, Option.bind_some]
    -- the others make room
    have shift : ∀ (d j fu : Nat) (U : MM), d + p = j → j < z → d < fu → RkS U k z → rI U k 3 = (n' : Int) → (∀ i, i ≤ j → gRk U k i = gRk M k i) → (∀ i, j < i → i < n' → gRk U k i = gRk M k (i - 1)) → Ex (RA k) M U → ∃ U', lpN (fun s : Int × MM => b_X5_add_68 (k : Int) x.1 x.2.1 x.2.2 (p : Int) s.1 s.2) fu ((j : Int), U) = j_X5_add_129 (k : Int) x.1 x.2.1 x.2.2 (p : Int) U' ∧ RkS U' k z ∧ rI U' k 3 = (n' : Int) ∧ (∀ i, i < p → gRk U' k i = gRk M k i) ∧ (∀ i, p < i → i < n' → gRk U' k i = gRk M k (i - 1)) ∧ Ex (RA k) M U' := by
      intro d
      induction d with
      | zero =>
        intro j fu U hj hjz hf hU h3' q1 q2 q3
        have : j = p := by omega
        subst this
        refine ⟨U, lpN_end (by omega) ?_, hU, h3', fun i hi => q1 i (by omega), q2, q3⟩
        show b_X5_add_68 (k : Int) x.1 x.2.1 x.2.2 (j : Int) (j : Int) U = _
        unfold b_X5_add_68
        rw [if_neg (by omega)]
      | succ d ih =>
        intro j fu U hj hjz hf hU h3' q1 q2 q3
        obtain ⟨fu', rfl⟩ : ∃ f, fu = f + 1 := ⟨fu - 1, by omega⟩
        obtain ⟨v, hv⟩ : ∃ v, v = gRk U k (j - 1) := ⟨_, rfl⟩
        obtain ⟨U1, r1, r2, r3, r4, r5, r6⟩ := rk_put (i := j) hU hjz (by omega) v (by rw [hv]; exact ⟨w32_rI, w32_rI, w32_rI⟩)
        have hvj : v = gRk M k (j - 1) := by rw [hv]; exact q1 (j - 1) (by omega)
        obtain ⟨U', s1, s2, s3, s4, s5, s6⟩ := ih (j - 1) fu' U1 (by omega) (by omega) (by omega) (hU.ex r5) (by rw [r4]; exact h3') (fun i hi => by rw [r3 i (by omega)]; exact q1 i (by omega)) (fun i hi hi2 => by
          by_cases e : i = j
          · rw [e, r2]; exact hvj
          · rw [r3 i e]; exact q2 i (by omega) hi2) (q3.trans r5)
        refine ⟨U', ?_, s2, s3, s4, s5, s6⟩
        rw [lpN_cnt (b := fun s : Int × MM => b_X5_add_68 (k : Int) x.1 x.2.1 x.2.2 (p : Int) s.1 s.2) (s := ((j : Int), U)) (s' := (((j - 1 : Nat) : Int), U1))]
        · exact s1
        · show b_X5_add_68 (k : Int) x.1 x.2.1 x.2.2 (p : Int) (j : Int) U = _
          obtain ⟨u1, u2, u3, u4, u5, u6, u7⟩ := hU
          have v1 : v.1 = rI U (k + 1) (j - 1) := by rw [hv]; rfl
          have v2 : v.2.1 = rI U (k + 2) (j - 1) := by rw [hv]; rfl
          have v3 : v.2.2 = rI U (k + 3) (j - 1) := by rw [hv]; rfl
          unfold b_X5_add_68
          rw [w32_nn (by omega), w32_nn (by omega), if_pos (by omega), gfr_e u1, u2, Option.bind_some, Option.bind_some, show (j : Int) - 1 = ((j - 1 : Nat) : Int) from by omega, lai_e (k := 320) (l := z) (j := j - 1) u3 (by decide) (by decide) (w32_nn (by omega)) (by omega), Option.bind_some, sai_e (k := 320) (l := z) (j := j) u3 (by decide) (by decide) (w32_nn (by omega)) (by omega), Option.bind_some, gfr_e (by rw [kd_sI]; exact u1), rR_sI, u4, Option.bind_some, Option.bind_some, lai_e (k := 336) (l := z) (j := j - 1) (by rw [kd_sI]; exact u5) (by decide) (by decide) (w32_nn (by omega)) (by omega), Option.bind_some, rI_ne (by omega), sai_e (k := 336) (l := z) (j := j) (by rw [kd_sI]; exact u5) (by decide) (by decide) (w32_nn (by omega)) (by omega), Option.bind_some, gfr_e (by rw [kd_sI, kd_sI]; exact u1), rR_sI, rR_sI, u6, Option.bind_some, Option.bind_some, lai_e (k := 352) (l := z) (j := j - 1) (by rw [kd_sI, kd_sI]; exact u7) (by decide) (by decide) (w32_nn (by omega)) (by omega), Option.bind_some, rI_ne (by omega), rI_ne (by omega), sai_e (k := 352) (l := z) (j := j) (by rw [kd_sI, kd_sI]; exact u7) (by decide) (by decide) (w32_nn (by omega)) (by omega), Option.bind_some, ← v1, ← v2, ← v3, ← r6, show (j : Int) + (-1) = ((j - 1 : Nat) : Int) from by omega]
          rfl
    obtain ⟨U, s1, s2, s3, s4, s5, s6⟩ := shift (n' - 1 - p) (n' - 1) FU M1 (by omega) (by omega) (by unfold FU; omega) S1 i3 (fun i _ => g1 i) (fun i hi hi2 => by omega) x1
    obtain ⟨x1', x2', x3'⟩ := id hx
    obtain ⟨M', r1, r2, r3, r4, r5, r6⟩ := rk_put (i := p) s2 (by omega) (by omega) x ⟨w32s (by omega), w32s (by omega), w32s (by omega)⟩
    have len : ((L.take p ++ x :: L.drop p).take z).length = n' := by
      rw [List.length_take, List.length_append, List.length_cons, List.length_take, List.length_drop]; omega
    refine ⟨M', ?_, ⟨s2.ex r5, by rw [r4, s3, len], by rw [len]; omega, fun i hi => ?_⟩, s6.trans r5⟩
    · unfold l_X5_add_68
      rw [show ((n' : Nat) : Int) - 1 = ((n' - 1 : Nat) : Int) from by omega, s1]
      unfold j_X5_add_129
      exact r1
    · rw [len] at hi
      have e : ((L.take p ++ x :: L.drop p).take z).getD i it0 = (L.take p ++ x :: L.drop p).getD i it0 := by
        rw [List.getD_eq_getElem?_getD, List.getD_eq_getElem?_getD, List.getElem?_take, if_pos (by omega)]
      rw [e]
      by_cases c1 : i < p
      · rw [r3 i (by omega), s4 i c1, l3 i (by omega), List.getD_eq_getElem?_getD, List.getD_eq_getElem?_getD, List.getElem?_append_left (by rw [List.length_take]; omega), List.getElem?_take, if_pos c1]
      · by_cases c2 : i = p
        · rw [c2, r2, List.getD_eq_getElem?_getD, List.getElem?_append_right (by rw [List.length_take]; omega), List.length_take, show p - min p L.length = 0 from by omega]; rfl
        · rw [r3 i c2, s5 i (by omega) hi, l3 (i - 1) (by omega), List.getD_eq_getElem?_getD, List.getD_eq_getElem?_getD, List.getElem?_append_right (by rw [List.length_take]; omega), List.length_take, show i - min p L.length = (i - 1 - p) + 1 from by omega, List.getElem?_cons_succ, List.getElem?_drop, show p + (i - 1 - p) = i - 1 from by omega]
/-- what a ranking tells -/
theorem c_told {i c : Nat} (h : RkC M k z L) (hz : z ≤ 1000) (hi : i < L.length) (hc : c < 3) : f_X5_told (k : Int) (i : Int) (c : Int) M = some ((be3 (L.getD i it0)).getD c 0) := by
  obtain ⟨⟨h1, h2, h3, h4, h5, h6, h7⟩, l1, l2, l3⟩ := h
  rw [← l3 i hi]
  unfold f_X5_told j_X5_told_33
  have : c = 0 ∨ c = 1 ∨ c = 2 := by omega
  rcases this with e | e | e <;> rw [e]
  · rw [if_pos (by decide), gfr_e h1, h2, Option.bind_some, lai_e (j := i) h3 (by decide) (by decide) (w32_nn (by omega)) (by omega), Option.bind_some]; rfl
  · rw [if_neg (by decide), if_pos (by decide), gfr_e h1, h4, Option.bind_some, lai_e (j := i) h5 (by decide) (by decide) (w32_nn (by omega)) (by omega), Option.bind_some]; rfl
  · rw [if_neg (by decide), if_neg (by decide), gfr_e h1, h6, Option.bind_some, lai_e (j := i) h7 (by decide) (by decide) (w32_nn (by omega)) (by omega), Option.bind_some]; rfl
end CRANK
