/-! tables of the reference: looking for rows -/
theorem lp_find {σ ρ : Type} {b : σ → Option (σ ⊕ ρ)} (st : Nat → σ) (n : Nat) (c : Nat → Bool) (κ : Nat → Option ρ) (z : Option ρ) (h1 : ∀ i, i < n → b (st i) = if c i = true then xit (κ i) else cnt (st (i + 1))) (h2 : b (st n) = xit z) (fu : Nat) (hf : n < fu) : (∃ i, i < n ∧ c i = true ∧ (∀ j, j < i → c j = false) ∧ lpN b fu (st 0) = κ i) ∨ ((∀ i, i < n → c i = false) ∧ lpN b fu (st 0) = z) := by
  have key : ∀ m k fu, k + m = n → m < fu → (∀ j, j < k → c j = false) → (∃ i, i < n ∧ c i = true ∧ (∀ j, j < i → c j = false) ∧ lpN b fu (st k) = κ i) ∨ ((∀ i, i < n → c i = false) ∧ lpN b fu (st k) = z) := by
    intro m
    induction m with
    | zero =>
      intro k fu hk hf hj
      obtain ⟨f, rfl⟩ : ∃ f, fu = f + 1 := ⟨fu - 1, by omega⟩
      have e : k = n := by omega
      subst e
      exact Or.inr ⟨hj, lpN_xit h2⟩
    | succ m ih =>
      intro k fu hk hf hj
      obtain ⟨f, rfl⟩ : ∃ f, fu = f + 1 := ⟨fu - 1, by omega⟩
      have hb := h1 k (by omega)
      by_cases q : c k = true
      · rw [if_pos q] at hb
        exact Or.inl ⟨k, by omega, q, hj, lpN_xit hb⟩
      · rw [if_neg q] at hb
        rw [lpN_cnt hb]
        refine ih (k + 1) f (by omega) (by omega) (fun j hj2 => ?_)
        by_cases e : j = k
        · rw [e]; simpa using q
        · exact hj j (by omega)
  exact key n 0 fu (by omega) hf (fun j hj => by omega)
theorem m190 : mA 190 176000 := by refine ⟨?_, ?_, ?_, ?_, ?_⟩ <;> decide
theorem m165 : mA 165 160 := by refine ⟨?_, ?_, ?_, ?_, ?_⟩ <;> decide
section VTAB2
variable {V W : VV} {p i : Nat} {own : Ky} {T : List Row} {Z Z' : Nat} {x x' : Row} {s : Int} {e n q : Nat}
theorem v_rowWith (h : TabV V p own T Z) (hp : p < 32) (he : mA e n) (hq : q + 5 ≤ n) (hn : n ≤ 1000000) : (∃ i, i < T.length ∧ f_X16_rowWith (p : Int) (e : Int) (q : Int) V = some ((1100 * p + i : Nat) : Int) ∧ gk V 190 (5 * (1100 * p + i)) = gk V e q) ∨ (f_X16_rowWith (p : Int) (e : Int) (q : Int) V = some (-1) ∧ ∀ i, i < T.length → gk V 190 (5 * (1100 * p + i)) ≠ gk V e q) := by
  have h189 := h.1
  have hl := h.2.1.1
  have hs := fun i (hi : i < T.length) => v_same (V := V) (p := 5 * (1100 * p + i)) m190 (by omega) (by decide) he hq hn
  have r := lp_find (b := fun s : Int => b_X16_rowWith_3 (p : Int) (e : Int) (q : Int) s V) (fun i => ((i : Nat) : Int)) T.length (fun i => decide (gk V 190 (5 * (1100 * p + i)) = gk V e q)) (fun i => some ((1100 * p + i : Nat) : Int)) (some (-1))
    (fun i hi => by
      show b_X16_rowWith_3 (p : Int) (e : Int) (q : Int) ((i : Nat) : Int) V = _
      have e1 : (190 : Int) = ((190 : Nat) : Int) := rfl
      unfold b_X16_rowWith_3 j_X16_rowWith_36
      simp (disch := omega) only [l2_n, w32_nn, c1100m, c5m, cadd, cadd1, clt, h189, Option.bind_some, hi, if_true, e1, hs i hi, w32_b2i, b2i_0]
      grind)
    (by
      show b_X16_rowWith_3 (p : Int) (e : Int) (q : Int) ((T.length : Nat) : Int) V = _
      unfold b_X16_rowWith_3
      simp (disch := omega) only [l2_n, w32_nn, clt, h189, Option.bind_some, Nat.lt_irrefl, if_false]) FU (by unfold FU; omega)
  rcases r with ⟨i, hi, hc, -, e⟩ | ⟨hc, e⟩
  · exact Or.inl ⟨i, hi, e, by simpa using hc⟩
  · exact Or.inr ⟨e, fun i hi => by simpa using hc i hi⟩
theorem v_inBucket {c : Int} {r : Bool} (h : TabV V p own T Z) (hp : p < 32) (hc : w32 c = c) : f_X16_inBucket (p : Int) c (b2i r) V = some ((T.filter (pr own c r)).length : Int) := by
  have h189 := h.1
  have hl := h.2.1.1
  let f : RwV → Bool := fun y => decide (y.2.2.1 = c) && decide (y.2.2.2.1 = b2i r)
  have lp := lp_seq (b := fun s : Int × Int => b_X16_inBucket_10 (p : Int) c (b2i r) s.1 s.2 V) (x := some (((rowsV V p T.length).countP f : Nat) : Int)) (fun k => ((((rowsV V p k).countP f : Nat) : Int), ((1100 * p + k : Nat) : Int))) T.length
    (fun k hk => by
      show b_X16_inBucket_10 (p : Int) c (b2i r) (((rowsV V p k).countP f : Nat) : Int) ((1100 * p + k : Nat) : Int) V = some (.inl ((((rowsV V p (k + 1)).countP f : Nat) : Int), ((1100 * p + (k + 1) : Nat) : Int)))
      have e : (rowsV V p (k + 1)).countP f = (rowsV V p k).countP f + if vI V 192 (1100 * p + k) = c ∧ vI V 193 (1100 * p + k) = b2i r then 1 else 0 := by
        rw [rowsV, rws_succ, List.countP_append]
        simp [rowsV, f, gR, List.countP_cons]
      rw [e]
      unfold b_X16_inBucket_10 j_X16_inBucket_55 j_X16_inBucket_56
      simp (disch := omega) only [l2_n, w32_nn, c1100m, cadd, cadd1, clt, h189, Option.bind_some, w32_vI, hc, w32_b2i, if_pos (show 1100 * p + k < 1100 * p + T.length by omega), cnt]
      grind)
    (by
      show b_X16_inBucket_10 (p : Int) c (b2i r) _ ((1100 * p + T.length : Nat) : Int) V = _
      unfold b_X16_inBucket_10
      simp (disch := omega) only [l2_n, w32_nn, c1100m, cadd, clt, h189, Option.bind_some, Nat.lt_irrefl, if_false]) FU 0 (by omega) (by unfold FU; omega)
  have e0 : ((((rowsV V p 0).countP f : Nat) : Int), ((1100 * p + 0 : Nat) : Int)) = ((0 : Int), 1100 * (p : Int)) := by simp [rowsV, rws]
  simp only [e0] at lp
  unfold f_X16_inBucket l_X16_inBucket_10
  refine lp.trans ?_
  obtain ⟨-, -, TS, h2, h3, h4, h5⟩ := h
  rw [h5.countP_eq, List.countP_map, ← h2, List.filter_map, List.length_map, ← List.countP_eq_length_filter]
  congr 3
  funext y
  show (decide (kc y.1.1 own = c) && decide (b2i y.1.2.2 = b2i r)) = (decide (kc y.1.1 own = c) && (y.1.2.2 == r))
  congr 1
  cases y.1.2.2 <;> cases r <;> decide
theorem head_min {α : Type} {g : α → Int} {f : α → Bool} {y : α} : ∀ {l : List α}, l.Pairwise (fun a b => g a < g b) → y ∈ l → f y = true → (∀ z, z ∈ l → f z = true → g y ≤ g z) → (l.filter f).head? = some y
  | [], _, h, _, _ => by simp at h
  | w :: l, hp, hy, hf, hm => by
    have hw := (List.pairwise_cons.mp hp).1
    rcases List.mem_cons.mp hy with rfl | hy
    · simp [hf]
    · have hn : f w = false := by
        cases hq : f w with
        | false => rfl
        | true =>
          have a1 := hm w List.mem_cons_self hq
          have a2 := hw y hy
          omega
      rw [List.filter_cons_of_neg (by simp [hn])]
      exact head_min (List.pairwise_cons.mp hp).2 hy hf (fun z hz => hm z (List.mem_cons_of_mem _ hz))
theorem last_max {α : Type} {g : α → Int} {f : α → Bool} {y : α} : ∀ {l : List α}, l.Pairwise (fun a b => g a < g b) → y ∈ l → f y = true → (∀ z, z ∈ l → f z = true → g z ≤ g y) → (l.filter f).getLast? = some y := by
  intro l hp hy hf hm
  have hp2 : l.reverse.Pairwise (fun a b => (fun z => - g z) a < (fun z => - g z) b) := by
    rw [List.pairwise_reverse]
    exact hp.imp (fun {a b} q => by show - g b < - g a; omega)
  have := head_min (g := fun z => - g z) (f := f) (y := y) hp2 (by simpa using hy) hf (fun z hz hq => by have := hm z (by simpa using hz) hq; omega)
  rw [List.filter_reverse, List.head?_reverse] at this
  exact this
theorem v_edge {c : Int} {r fi : Bool} (h : TabV V p own T Z) (hp : p < 32) (hc : w32 c = c) : (f_X16_edge (p : Int) c (b2i r) (b2i fi) V = some (-1) ∧ T.filter (pr own c r) = []) ∨ ∃ i x s, i < T.length ∧ f_X16_edge (p : Int) c (b2i r) (b2i fi) V = some ((1100 * p + i : Nat) : Int) ∧ gR V (1100 * p + i) = enc own (x, s) ∧ x ∈ T ∧ pr own c r x = true ∧ (if fi = true then (T.filter (pr own c r)).head? else (T.filter (pr own c r)).getLast?) = some x := by
  have h189 := h.1
  have hl := h.2.1.1
  let m : Nat → Prop := fun f => vI V 192 (1100 * p + f) = c ∧ vI V 193 (1100 * p + f) = b2i r
  let S : Nat → Int := fun f => vI V 194 (1100 * p + f)
  let B : Nat → Int → Prop := fun k b => (b = -1 ∧ ∀ f, f < k → ¬ m f) ∨ ∃ g : Nat, b = ((1100 * p + g : Nat) : Int) ∧ g < k ∧ m g ∧ ∀ f, f < k → m f → if fi = true then S g ≤ S f else S f ≤ S g
  obtain ⟨⟨b, z⟩, n2, hn2, hI2, q2⟩ := lp_inv (b := fun s : Int × Int => b_X16_edge_10 (p : Int) c (b2i r) (b2i fi) s.1 s.2 V) (fun k s => s.2 = ((1100 * p + k : Nat) : Int) ∧ B k s.1) T.length
    (fun k s hk hs => by
      obtain ⟨b, z⟩ := s
      obtain ⟨rfl, hb⟩ := hs
      show ∃ s', b_X16_edge_10 (p : Int) c (b2i r) (b2i fi) b ((1100 * p + k : Nat) : Int) V = _ ∧ _
      have hstep : ∀ b', B (k + 1) b' → (∃ s' : Int × Int, (some (Sum.inl (b', ((1100 * p + k + 1 : Nat) : Int))) : Option ((Int × Int) ⊕ Int)) = some (.inl s') ∧ s'.2 = ((1100 * p + (k + 1) : Nat) : Int) ∧ B (k + 1) s'.1) := fun b' hb' => ⟨_, rfl, rfl, hb'⟩
      unfold b_X16_edge_10 j_X16_edge_76 j_X16_edge_81 j_X16_edge_85
      simp (disch := omega) only [l2_n, w32_nn, c1100m, cadd, cadd1, clt, h189, Option.bind_some, w32_vI, hc, w32_b2i, if_pos (show 1100 * p + k < 1100 * p + T.length by omega), cnt]
      by_cases c1 : vI V 192 (1100 * p + k) = c
      · by_cases c2 : vI V 193 (1100 * p + k) = b2i r
        · have hm : m k := ⟨c1, c2⟩
          simp only [if_pos c1, if_pos c2]
          rcases hb with ⟨e, hb⟩ | ⟨g, e, g1, g2, g3⟩
          · have e : b = -1 := e
            subst e
            simp only [w32_m1, if_pos (show (-1 : Int) < 0 by decide)]
            refine hstep _ (Or.inr ⟨k, rfl, by omega, hm, fun f hf hmf => ?_⟩)
            by_cases q : f = k
            · subst q; split <;> exact Int.le_refl _
            · exact absurd hmf (hb f (by omega))
          · have e : b = ((1100 * p + g : Nat) : Int) := e
            subst e
            simp (disch := omega) only [w32_nn, clt0, if_false, l2_n, Option.bind_some, w32_vI, w32_0, w32_1]
            have hk2 : ∀ f, f < k + 1 → m f → f ≠ k → if fi = true then S g ≤ S f else S f ≤ S g := fun f hf hmf hne => g3 f (by omega) hmf
            have hg2 : ∀ f, f < k + 1 → m f → f ≠ k → if fi = true then S g ≤ S f else S f ≤ S g := hk2
            by_cases c3 : vI V 194 (1100 * p + k) < vI V 194 (1100 * p + g)
            · have c4 : S k < S g := c3
              simp only [if_pos c3]
              cases fi with
              | true =>
                rw [if_pos (show (1 : Int) = b2i true by decide)]
                refine hstep _ (Or.inr ⟨k, rfl, by omega, hm, fun f hf hmf => ?_⟩)
                by_cases q : f = k
                · rw [if_pos rfl, q]; exact Int.le_refl _
                · have := hk2 f hf hmf q
                  rw [if_pos rfl] at this ⊢
                  omega
              | false =>
                rw [if_neg (show ¬ (1 : Int) = b2i false by decide)]
                refine hstep _ (Or.inr ⟨g, rfl, by omega, g2, fun f hf hmf => ?_⟩)
                rw [if_neg (by decide)]
                by_cases q : f = k
                · rw [q]; omega
                · have := hk2 f hf hmf q
                  rw [if_neg (by decide)] at this
                  exact this
            · have c4 : ¬ S k < S g := c3
              simp only [if_neg c3]
              cases fi with
              | true =>
                rw [if_neg (show ¬ (0 : Int) = b2i true by decide)]
                refine hstep _ (Or.inr ⟨g, rfl, by omega, g2, fun f hf hmf => ?_⟩)
                rw [if_pos rfl]
                by_cases q : f = k
                · rw [q]; omega
                · have := hk2 f hf hmf q
                  rw [if_pos rfl] at this
                  exact this
              | false =>
                rw [if_pos (show (0 : Int) = b2i false by decide)]
                refine hstep _ (Or.inr ⟨k, rfl, by omega, hm, fun f hf hmf => ?_⟩)
                rw [if_neg (by decide)]
                by_cases q : f = k
                · rw [q]; exact Int.le_refl _
                · have := hk2 f hf hmf q
                  rw [if_neg (by decide)] at this
                  omega
        · simp only [if_pos c1, if_neg c2]
          refine hstep _ ?_
          have hm : ¬ m k := fun q => c2 q.2
          rcases hb with ⟨e, hb⟩ | ⟨g, e, g1, g2, g3⟩
          · exact Or.inl ⟨e, fun f hf => by by_cases q : f = k; exact q ▸ hm; exact hb f (by omega)⟩
          · exact Or.inr ⟨g, e, by omega, g2, fun f hf hmf => by by_cases q : f = k; exact absurd (q ▸ hmf) hm; exact g3 f (by omega) hmf⟩
      · simp only [if_neg c1]
        refine hstep _ ?_
        have hm : ¬ m k := fun q => c1 q.1
        rcases hb with ⟨e, hb⟩ | ⟨g, e, g1, g2, g3⟩
        · exact Or.inl ⟨e, fun f hf => by by_cases q : f = k; exact q ▸ hm; exact hb f (by omega)⟩
        · exact Or.inr ⟨g, e, by omega, g2, fun f hf hmf => by by_cases q : f = k; exact absurd (q ▸ hmf) hm; exact g3 f (by omega) hmf⟩) FU 0 (-1, ((1100 * p : Nat) : Int)) (by omega) (by unfold FU; omega) ⟨rfl, Or.inl ⟨rfl, fun f hf => by omega⟩⟩
  obtain ⟨rfl, hB⟩ := hI2
  have hend : b_X16_edge_10 (p : Int) c (b2i r) (b2i fi) b ((1100 * p + T.length : Nat) : Int) V = xit (some b) := by
    unfold b_X16_edge_10
    simp (disch := omega) only [l2_n, w32_nn, c1100m, cadd, clt, h189, Option.bind_some, Nat.lt_irrefl, if_false]
  have hval : f_X16_edge (p : Int) c (b2i r) (b2i fi) V = some b := by
    unfold f_X16_edge l_X16_edge_10
    rw [c1100m]
    refine Eq.trans q2 ?_
    exact lpN_end (b := fun s : Int × Int => b_X16_edge_10 (p : Int) c (b2i r) (b2i fi) s.1 s.2 V) (s := (b, ((1100 * p + T.length : Nat) : Int))) hn2 hend
  obtain ⟨-, hT, TS, h2, h3, h4, h5⟩ := id h
  -- a row that matches is a slot that matches
  have sl : ∀ y, y ∈ TS → pr own c r y.1 = true → ∃ f, f < T.length ∧ m f ∧ S f = y.2 ∧ gR V (1100 * p + f) = enc own y := by
    intro y hy hq
    have hm : enc own y ∈ TS.map (enc own) := List.mem_map.mpr ⟨_, hy, rfl⟩
    rw [← h5.mem_iff] at hm
    obtain ⟨f, hf, e⟩ := rws_mem.mp hm
    unfold pr at hq
    simp at hq
    have e : gR V (1100 * p + f) = enc own y := e
    refine ⟨f, hf, ⟨?_, ?_⟩, ?_, e⟩
    · have := congrArg (fun z => z.2.2.1) e
      exact this.trans hq.1
    · have := congrArg (fun z => z.2.2.2.1) e
      exact this.trans (by rw [← hq.2]; rfl)
    · exact congrArg (fun z => z.2.2.2.2) e
  have sl2 : ∀ f, f < T.length → m f → ∃ y, y ∈ TS ∧ pr own c r y.1 = true ∧ S f = y.2 ∧ gR V (1100 * p + f) = enc own y := by
    intro f hf hm
    have hm2 : gR V (1100 * p + f) ∈ rowsV V p T.length := rws_mem.mpr ⟨f, hf, rfl⟩
    rw [h5.mem_iff] at hm2
    obtain ⟨y, hy, e⟩ := List.mem_map.mp hm2
    refine ⟨y, hy, ?_, (congrArg (fun z => z.2.2.2.2) e).symm, e.symm⟩
    have a1 : kc y.1.1 own = c := (congrArg (fun z => z.2.2.1) e).trans hm.1
    have a2 : b2i y.1.2.2 = b2i r := (congrArg (fun z => z.2.2.2.1) e).trans hm.2
    unfold pr
    rw [b2i_inj] at a2
    simp [a1, a2]
  rcases hB with ⟨e, hb⟩ | ⟨g, e, g1, g2, g3⟩
  · have e : b = -1 := e
    subst e
    refine Or.inl ⟨hval, List.filter_eq_nil_iff.mpr (fun x hx hq => ?_)⟩
    rw [← h2] at hx
    obtain ⟨y, hy, rfl⟩ := List.mem_map.mp hx
    obtain ⟨f, hf, hm, -⟩ := sl y hy hq
    exact hb f hf hm
  · have e : b = ((1100 * p + g : Nat) : Int) := e
    subst e
    obtain ⟨y, hy, hq, hS, hg⟩ := sl2 g g1 g2
    refine Or.inr ⟨g, y.1, y.2, g1, hval, hg, by rw [← h2]; exact List.mem_map.mpr ⟨y, hy, rfl⟩, hq, ?_⟩
    rw [← h2, List.filter_map]
    cases fi with
    | true =>
      rw [if_pos rfl, List.head?_map, head_min (g := fun z => z.2) (y := y) h3 hy (by exact hq) (fun z hz hqz => ?_)]
      · rfl
      · obtain ⟨f, hf, hm, hSf, -⟩ := sl z hz hqz
        have := g3 f hf hm
        rw [if_pos rfl] at this
        omega
    | false =>
      rw [if_neg (by decide), List.getLast?_map, last_max (g := fun z => z.2) (y := y) h3 hy (by exact hq) (fun z hz hqz => ?_)]
      · rfl
      · obtain ⟨f, hf, hm, hSf, -⟩ := sl z hz hqz
        have := g3 f hf hm
        rw [if_neg (by decide)] at this
        omega
end VTAB2
