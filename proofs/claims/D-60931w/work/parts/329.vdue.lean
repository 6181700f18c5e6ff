theorem pig : ∀ (n : Nat) (o : Nat → Nat), (∀ i, i < n → o i < n) → (∀ i j, i < n → j < n → o i = o j → i = j) → ∀ f, f < n → ∃ i, i < n ∧ o i = f
  | 0, _, _, _, f, hf => by omega
  | n + 1, o, h1, h2, f, hf => by
    by_cases ha : o n = f
    · exact ⟨n, by omega, ha⟩
    · let o' : Nat → Nat := fun i => if o i = n then o n else o i
      have b1 : ∀ i, i < n → o' i < n := by
        intro i hi
        show (if o i = n then o n else o i) < n
        have c1 := h1 i (by omega)
        have c2 := h1 n (by omega)
        split
        · next q =>
          have : o n ≠ n := fun z => by have := h2 i n (by omega) (by omega) (by omega); omega
          omega
        · omega
      have b2 : ∀ i j, i < n → j < n → o' i = o' j → i = j := by
        intro i j hi hj hij
        have hij : (if o i = n then o n else o i) = (if o j = n then o n else o j) := hij
        split at hij
        · split at hij
          · exact h2 i j (by omega) (by omega) (by omega)
          · have := h2 n j (by omega) (by omega) hij; omega
        · split at hij
          · have := h2 i n (by omega) (by omega) hij; omega
          · exact h2 i j (by omega) (by omega) hij
      have hfn : (if f = n then o n else f) < n := by
        have c2 := h1 n (by omega)
        split
        · omega
        · omega
      obtain ⟨i, hi, e⟩ := pig n o' b1 b2 _ hfn
      have e : (if o i = n then o n else o i) = (if f = n then o n else f) := e
      refine ⟨i, by omega, ?_⟩
      split at e
      · next q =>
        split at e
        · omega
        · exact absurd e ha
      · next q =>
        split at e
        · have := h2 i n (by omega) (by omega) e; omega
        · exact e
/-- ahead: by when it is due, then by its serial -/
def ahd (V : VV) (f g : Nat) : Bool := decide (vI V 184 f < vI V 184 g) || (decide (vI V 184 f = vI V 184 g) && decide (vI V 185 f < vI V 185 g))
theorem v_ahead {V : VV} {f g : Nat} (hf : f < 400) (hg : g < 400) : f_X16_ahead (f : Int) (g : Int) V = some (b2i (ahd V f g)) := by
  have h1 := w32_j (j := f) (by omega)
  have h2 := w32_j (j := g) (by omega)
  unfold f_X16_ahead j_X16_ahead_45 j_X16_ahead_49 j_X16_ahead_50
  rw [l2_e h1 hf, Option.bind_some, l2_e h2 hg, Option.bind_some, Option.bind_some, Option.bind_some, l2_e h1 hf, Option.bind_some, l2_e h2 hg, Option.bind_some]
  simp only [w32_vI]
  rw [bz_e (Or.inl rfl), bz_e (Or.inr rfl)]
  unfold ahd
  by_cases c1 : vI V 184 f < vI V 184 g
  · rw [if_pos c1, decide_eq_true c1]; rfl
  · rw [if_neg c1, decide_eq_false c1]
    by_cases c2 : vI V 184 f = vI V 184 g
    · rw [if_pos c2, decide_eq_true c2]
      by_cases c3 : vI V 185 f < vI V 185 g
      · rw [if_pos c3, decide_eq_true c3]; rfl
      · rw [if_neg c3, decide_eq_false c3]; rfl
    · rw [if_neg c2, decide_eq_false c2]; rfl
theorem v_nextDue {V : VV} {st : Nat → Int} {tm lo : Int} {fl : List Dg} {L : Nat} (h : VNet V st tm lo fl L) {o : Nat → Nat} (ho : OrdV V o fl L) : f_X16_nextDue V = some (if 0 < fl.length ∧ (fl.getD 0 dg0).2.2.1 ≤ tm then ((o 0 : Nat) : Int) else -1) := by
  obtain ⟨h1, h2, h3, h4, h5, h6, -⟩ := h
  obtain ⟨o1, o2, o3, o4⟩ := ho
  let n := fl.length
  have c32 : w32 (V 156 32) = (n : Int) := h4
  have c11 : w32 (V 156 11) = tm := h2
  have hwn : w32 (n : Int) = (n : Int) := w32_id (by omega) (by omega)
  have hwt : w32 tm = tm := by rw [← c11, w32_w32]
  -- what is best among the first k slots
  let B : Nat → Int → Prop := fun k b => (b = -1 ∧ ∀ f, f < k → tm < vI V 184 f) ∨ ∃ g : Nat, b = (g : Int) ∧ g < k ∧ vI V 184 g ≤ tm ∧ ∀ f, f < k → f ≠ g → vI V 184 f ≤ tm → ahd V g f = true
  -- two slots are apart
  have tot : ∀ f g, f < n → g < n → f ≠ g → (ahd V f g = true ∧ ahd V g f = false) ∨ (ahd V g f = true ∧ ahd V f g = false) := by
    intro f g hf hg hne
    obtain ⟨i, hi, ei⟩ := pig n o o1 o2 f hf
    obtain ⟨j, hj, ej⟩ := pig n o o1 o2 g hg
    have key : ∀ i j, i < j → j < n → ahd V (o i) (o j) = true ∧ ahd V (o j) (o i) = false := by
      intro i j hij hj
      have q := o4 i j hij hj
      have d1 := (o3 i (by omega)).1.2.2.1
      have d2 := (o3 j hj).1.2.2.1
      unfold ahd
      rw [d1, d2]
      rcases q with q | ⟨q1, q2⟩
      · rw [decide_eq_true q, decide_eq_false (show ¬ (fl.getD j dg0).2.2.1 < (fl.getD i dg0).2.2.1 by omega), decide_eq_false (show ¬ (fl.getD j dg0).2.2.1 = (fl.getD i dg0).2.2.1 by omega)]
        exact ⟨rfl, rfl⟩
      · rw [decide_eq_true q1, decide_eq_true q2, decide_eq_false (show ¬ (fl.getD j dg0).2.2.1 < (fl.getD i dg0).2.2.1 by omega), decide_eq_false (show ¬ vI V 185 (o j) < vI V 185 (o i) by omega)]
        exact ⟨by simp, by simp⟩
    rw [← ei, ← ej]
    rcases Nat.lt_or_ge i j with q | q
    · exact Or.inl (key i j q hj)
    · have : i ≠ j := fun z => hne (by rw [← ei, ← ej, z])
      exact Or.inr (key j i (by omega) hi)
  have trn : ∀ f g k, ahd V f g = true → ahd V g k = true → ahd V f k = true := by
    intro f g k
    unfold ahd
    simp only [Bool.or_eq_true, Bool.and_eq_true, decide_eq_true_eq]
    omega
  obtain ⟨⟨b, x⟩, n2, hn2, hI2, q2⟩ := lp_inv (b := fun s : Int × Int => b_X16_nextDue_4 s.1 s.2 V) (fun k s => s.2 = (k : Int) ∧ B k s.1) n
    (fun k s hk hs => by
      obtain ⟨b, z⟩ := s
      obtain ⟨rfl, hb⟩ := hs
      have hw := w32_j (j := k) (by omega)
      show ∃ s', b_X16_nextDue_4 b (k : Int) V = _ ∧ _
      unfold b_X16_nextDue_4 j_X16_nextDue_38 j_X16_nextDue_40
      rw [hw, c32, hwn, if_pos (by omega), c11, hwt, l2_e hw (by omega), Option.bind_some, w32_vI]
      by_cases c1 : tm < vI V 184 k
      · rw [if_pos c1]
        refine ⟨(b, ((k + 1 : Nat) : Int)), rfl, rfl, ?_⟩
        rcases hb with ⟨e, hb⟩ | ⟨g, e, g1, g2, g3⟩
        · refine Or.inl ⟨e, fun f hf => ?_⟩
          by_cases q : f = k
          · rw [q]; exact c1
          · exact hb f (by omega)
        · refine Or.inr ⟨g, e, by omega, g2, fun f hf hne hd => ?_⟩
          by_cases q : f = k
          · rw [q] at hd; omega
          · exact g3 f (by omega) hne hd
      · rw [if_neg c1]
        rcases hb with ⟨e, hb⟩ | ⟨g, e, g1, g2, g3⟩
        · have e : b = -1 := e
          rw [e, if_pos (by decide)]
          refine ⟨((k : Int), ((k + 1 : Nat) : Int)), rfl, rfl, Or.inr ⟨k, rfl, by omega, by omega, fun f hf hne hd => ?_⟩⟩
          have := hb f (by omega); omega
        · have e : b = (g : Int) := e
          have hwg := w32_j (j := g) (by omega)
          rw [e, hwg, if_neg (by omega), v_ahead (by omega) (by omega), Option.bind_some, w32_b2i]
          have tt := tot k g (by omega) (by omega) (by omega)
          cases ha : ahd V k g with
          | false =>
            rw [if_pos (by decide)]
            refine ⟨((g : Int), ((k + 1 : Nat) : Int)), rfl, rfl, Or.inr ⟨g, rfl, by omega, g2, fun f hf hne hd => ?_⟩⟩
            by_cases q : f = k
            · rw [q]
              rcases tt with tt | tt
              · rw [ha] at tt; cases tt.1
              · exact tt.1
            · exact g3 f (by omega) hne hd
          | true =>
            rw [if_neg (by decide)]
            refine ⟨((k : Int), ((k + 1 : Nat) : Int)), rfl, rfl, Or.inr ⟨k, rfl, by omega, by omega, fun f hf hne hd => ?_⟩⟩
            by_cases q : f = g
            · rw [q]; exact ha
            · exact trn k g f ha (g3 f (by omega) q hd)) FU 0 (-1, 0) (by omega) (by unfold FU; omega) ⟨rfl, Or.inl ⟨rfl, fun f hf => by omega⟩⟩
  obtain ⟨rfl, hB⟩ := hI2
  have hend : b_X16_nextDue_4 b (n : Int) V = xit (some b) := by
    unfold b_X16_nextDue_4
    rw [c32, if_neg (by omega)]
  have hbv : b = if 0 < fl.length ∧ (fl.getD 0 dg0).2.2.1 ≤ tm then ((o 0 : Nat) : Int) else -1 := by
    by_cases hc : 0 < fl.length ∧ (fl.getD 0 dg0).2.2.1 ≤ tm
    · rw [if_pos hc]
      have d0 := (o3 0 hc.1).1.2.2.1
      have l0 := o1 0 hc.1
      rcases hB with ⟨e, hb⟩ | ⟨g, e, g1, g2, g3⟩
      · have := hb (o 0) l0; omega
      · by_cases q : o 0 = g
        · have e : b = (g : Int) := e
          rw [e, q]
        · have a1 := g3 (o 0) l0 q (by omega)
          obtain ⟨i, hi, ei⟩ := pig n o o1 o2 g g1
          have hi0 : 0 < i := Nat.pos_of_ne_zero (fun z => q (by rw [← ei, z]))
          have q4 := o4 0 i hi0 hi
          have di := (o3 i hi).1.2.2.1
          unfold ahd at a1
          rw [← ei, di, d0] at a1
          simp only [Bool.or_eq_true, Bool.and_eq_true, decide_eq_true_eq] at a1
          omega
    · rw [if_neg hc]
      rcases hB with ⟨e, hb⟩ | ⟨g, e, g1, g2, g3⟩
      · exact e
      · obtain ⟨i, hi, ei⟩ := pig n o o1 o2 g g1
        have di := (o3 i hi).1.2.2.1
        rw [ei] at di
        have : (fl.getD 0 dg0).2.2.1 ≤ (fl.getD i dg0).2.2.1 := by
          by_cases z : i = 0
          · rw [z]; exact Int.le_refl _
          · have := o4 0 i (by omega) hi; omega
        exact absurd ⟨by omega, by omega⟩ hc
  unfold f_X16_nextDue l_X16_nextDue_4
  refine Eq.trans q2 ?_
  rw [← hbv]
  exact lpN_end (b := fun s : Int × Int => b_X16_nextDue_4 s.1 s.2 V) (s := (b, (n : Int))) hn2 hend
