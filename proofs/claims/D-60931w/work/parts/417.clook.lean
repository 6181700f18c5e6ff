/-! lookups of the class: what one knows, the nearest first -/
def isEn (M : MM) (e : Nat) : Prop := kd M e = (27, 31) ∧ rR M e 0 = ((e + 1 : Nat) : Int) ∧ kd M (e + 1) = (3, 30) ∧ isK M (e + 1)
def enC (M : MM) (e : Nat) : Ent := (ky (kC M (e + 1)), rI M e 1, rI M e 2, rI M e 3)
def LuS (M : MM) (u m : Nat) : Prop := kd M u = (15, 16) ∧ rR M u 0 = ((u + 1 : Nat) : Int) ∧ kd M (u + 1) = (376, 65) ∧ rR M u 1 = ((u + 2 : Nat) : Int) ∧ kd M (u + 2) = (3, 12) ∧ isK M (u + 2) ∧ rI M u 2 = (m : Int)
def ent0 : Ent := ((0, 0, 0, 0, 0), 0, 0, 0)
def LuC (M : MM) (u m : Nat) (tgt : Ky) (E : List Ent) (A : Nat) (D : Nat → Nat) : Prop :=
  LuS M u m ∧ ky (kC M (u + 2)) = tgt ∧ rI M u 3 = (E.length : Int) ∧ E.length ≤ A ∧ A ≤ 65 ∧ (∀ i, i < A → rR M (u + 1) i = ((D i : Nat) : Int) ∧ isEn M (D i)) ∧ (∀ i j, i < A → j < A → D i = D j → i = j) ∧ (∀ i, A ≤ i → i < 65 → rR M (u + 1) i = -1) ∧ okEs tgt E ∧ ∀ i, i < E.length → enC M (D i) = E.getD i ent0
section CLOOK
variable {M M1 : MM} {B : Nat → Prop} {u m A e e' kx k : Nat} {tgt : Ky} {E : List Ent} {D : Nat → Nat} {ad stt : Int}
theorem isEn_lt (hu : UN M) (h : isEn M e) : e + 2 < nN M := by have := isK_lt hu h.2.2.2; omega
theorem LuS_lt (hu : UN M) (h : LuS M u m) : u + 3 < nN M := by have := isK_lt hu h.2.2.2.2.2.1; omega
theorem en_kinds (h : isEn M e) {z : Nat} (h1 : e ≤ z) (h2 : z ≤ e + 2) : (z = e ∧ (kd M z).1 = 27) ∨ (z = e + 1 ∧ kd M z = (3, 30)) ∨ (z = e + 2 ∧ (kd M z).1 = 64) := by
  have q : z = e ∨ z = e + 1 ∨ z = e + 1 + 1 := by omega
  rcases q with q | q | q <;> subst q
  · exact Or.inl ⟨rfl, by rw [h.1]⟩
  · exact Or.inr (Or.inl ⟨rfl, h.2.2.1⟩)
  · exact Or.inr (Or.inr ⟨rfl, by rw [h.2.2.2.2.2]⟩)
theorem en_apart (h : isEn M e) (h' : isEn M e') (hne : e' ≠ e) {z : Nat} (h1 : e' ≤ z) (h2 : z ≤ e' + 2) : ¬ (e ≤ z ∧ z ≤ e + 2) := by
  rintro ⟨h3, h4⟩
  rcases Nat.lt_or_gt_of_ne hne with hl | hl
  · have a1 := en_kinds h' (z := e) (by omega) (by omega)
    have a2 : (kd M e).1 = 27 := by rw [h.1]
    rcases a1 with w | w | w
    · omega
    · rw [w.2] at a2; exact absurd a2 (by decide)
    · omega
  · have a1 := en_kinds h (z := e') (by omega) (by omega)
    have a2 : (kd M e').1 = 27 := by rw [h'.1]
    rcases a1 with w | w | w
    · omega
    · rw [w.2] at a2; exact absurd a2 (by decide)
    · omega
/-- entries are none of a lookup's own cells -/
theorem en_lu (h : isEn M e) (hS : LuS M u m) {z : Nat} (hz : u ≤ z ∧ z ≤ u + 3) : ¬ (e ≤ z ∧ z ≤ e + 2) := by
  rintro ⟨h1, h2⟩
  have kk := en_kinds h h1 h2
  obtain ⟨s1, s2, s3, s4, s5, s6, s7⟩ := hS
  have q : z = u ∨ z = u + 1 ∨ z = u + 2 ∨ z = u + 2 + 1 := by omega
  rcases q with q | q | q | q
  · rw [q, s1] at kk
    rcases kk with w | w | w
    · exact absurd w.2 (by decide)
    · exact absurd w.2 (by decide)
    · exact absurd w.2 (by decide)
  · rw [q, s3] at kk
    rcases kk with w | w | w
    · exact absurd w.2 (by decide)
    · exact absurd w.2 (by decide)
    · exact absurd w.2 (by decide)
  · rw [q, s5] at kk
    rcases kk with w | w | w
    · exact absurd w.2 (by decide)
    · exact absurd w.2 (by decide)
    · exact absurd w.2 (by decide)
  · rcases kk with w | w | w
    · rw [q, s6.2.2] at w; exact absurd w.2 (by decide)
    · rw [q, s6.2.2] at w; exact absurd w.2 (by decide)
    · have : u + 2 = e + 1 := by omega
      rw [this, h.2.2.1] at s5
      exact absurd s5 (by decide)
theorem isEn.exa (h : ExA B M M1) (hu : UN M) (h0 : ∀ z, e ≤ z → z ≤ e + 2 → ¬ B z) (he : isEn M e) : isEn M1 e := by
  have hl := isEn_lt hu he
  exact ⟨by rw [h.kd (by omega)]; exact he.1, by rw [h.rR (by omega) (h0 e (by omega) (by omega))]; exact he.2.1, by rw [h.kd (by omega)]; exact he.2.2.1, h.isK hu (h0 _ (by omega) (by omega)) he.2.2.2⟩
theorem enC.exa (h : ExA B M M1) (hu : UN M) (h0 : ∀ z, e ≤ z → z ≤ e + 2 → ¬ B z) (he : isEn M e) : enC M1 e = enC M e := by
  have hl := isEn_lt hu he
  unfold enC
  rw [h.kC (by omega) (h0 _ (by omega) (by omega)), h.rI (by omega) (h0 e (by omega) (by omega)), h.rI (by omega) (h0 e (by omega) (by omega)), h.rI (by omega) (h0 e (by omega) (by omega))]
theorem LuS.exa (h : ExA B M M1) (hu : UN M) (h0 : ¬ B u) (h2 : ¬ B (u + 2)) (hS : LuS M u m) : LuS M1 u m := by
  have hl := LuS_lt hu hS
  obtain ⟨s1, s2, s3, s4, s5, s6, s7⟩ := hS
  exact ⟨by rw [h.kd (by omega)]; exact s1, by rw [h.rR (by omega) h0]; exact s2, by rw [h.kd (by omega)]; exact s3, by rw [h.rR (by omega) h0]; exact s4, by rw [h.kd (by omega)]; exact s5, h.isK hu h2 s6, by rw [h.rI (by omega) h0]; exact s7⟩
theorem LuC.exa (h : ExA B M M1) (hu : UN M) (h0 : ∀ z, u ≤ z → z ≤ u + 3 → ¬ B z) (hd : ∀ i, i < A → ∀ z, D i ≤ z → z ≤ D i + 2 → ¬ B z) (hL : LuC M u m tgt E A D) : LuC M1 u m tgt E A D := by
  obtain ⟨l1, l2, l3, l4, l5, l6, l7, l8, l9, l10⟩ := hL
  have hl := LuS_lt hu l1
  exact ⟨l1.exa h hu (h0 u (by omega) (by omega)) (h0 _ (by omega) (by omega)), by rw [h.kC (by omega) (h0 _ (by omega) (by omega))]; exact l2, by rw [h.rI (by omega) (h0 u (by omega) (by omega))]; exact l3, l4, l5, fun i hi => ⟨by rw [h.rR (by omega) (h0 _ (by omega) (by omega))]; exact (l6 i hi).1, (l6 i hi).2.exa h hu (hd i hi)⟩, l7, fun i a b => by rw [h.rR (by omega) (h0 _ (by omega) (by omega))]; exact l8 i a b, l9, fun i hi => by rw [enC.exa h hu (hd i (by omega)) (l6 i (by omega)).2]; exact l10 i hi⟩
theorem e_is {M : MM} {a b : Nat} (ha : isK M a) (hb : isK M b) : f_X3_is (a : Int) (b : Int) M = some (b2i (decide (ky (kC M a) = ky (kC M b)))) := by
  rw [e_X3_is ha hb]
  have hq : kcom (kC M a) (kC M b) = 160 ↔ ky (kC M a) = ky (kC M b) := by rw [kcom_160 (kC_ok _ _) (kC_ok _ _), ← ky_eq]
  by_cases c : ky (kC M a) = ky (kC M b)
  · rw [if_pos (hq.mpr c), decide_eq_true c]; rfl
  · rw [if_neg (fun z => c (hq.mp z)), decide_eq_false c]; rfl
/-- whether a key is known -/
theorem c_lfind (hL : LuC M u m tgt E A D) (hk : isK M kx) : (∃ i, i < E.length ∧ f_X15_find (u : Int) (kx : Int) M = some ((D i : Nat) : Int) ∧ eKey (E.getD i ent0) = ky (kC M kx)) ∨ (f_X15_find (u : Int) (kx : Int) M = some (-1) ∧ hasE E (ky (kC M kx)) = false) := by
  obtain ⟨l1, l2, l3, l4, l5, l6, l7, l8, l9, l10⟩ := hL
  have k15 : (kd M u).1 = 15 := by rw [l1.1]
  have len := l9.1
  have fnd0 := lp_find (b := fun s : Int => b_X15_find_2 (u : Int) (kx : Int) s M) (fun i => ((i : Nat) : Int)) E.length (fun i => decide (eKey (E.getD i ent0) = ky (kC M kx))) (fun i => some ((D i : Nat) : Int)) (some (-1))
    (fun i hi => by
      show b_X15_find_2 (u : Int) (kx : Int) (i : Int) M = _
      obtain ⟨d1, d2⟩ := l6 i (by omega)
      have ek : ky (kC M (D i + 1)) = eKey (E.getD i ent0) := congrArg Prod.fst (l10 i hi)
      unfold b_X15_find_2 j_X15_find_26
      rw [gfi_e k15, Option.bind_some, l3, w32_nn (by omega), w32_nn (by omega), if_pos (by omega), gfr_e k15, l1.2.1, Option.bind_some, lar_n l1.2.2.1 (by decide) (by omega) (by decide), d1, Option.bind_some, gfr_e (by rw [d2.1]), d2.2.1, Option.bind_some, ck_e d2.2.2.2.1, e_is d2.2.2.2 hk, Option.bind_some, ek, w32_b2i]
      by_cases c : eKey (E.getD i ent0) = ky (kC M kx)
      · rw [decide_eq_true c, if_neg (show ¬ b2i true = 0 by decide), if_pos rfl, Option.bind_some, lar_n l1.2.2.1 (by decide) (by omega) (by decide), d1, Option.bind_some]
      · rw [decide_eq_false c, if_pos (show b2i false = 0 from rfl), if_neg (by decide)]
        rfl)
    (by
      show b_X15_find_2 (u : Int) (kx : Int) ((E.length : Nat) : Int) M = _
      unfold b_X15_find_2
      rw [gfi_e k15, Option.bind_some, l3, if_neg (by omega)]) FU (by unfold FU; omega)
  rcases fnd0 with ⟨i, hi, hc, -, e⟩ | ⟨hc, e⟩
  · exact Or.inl ⟨i, hi, e, by simpa using hc⟩
  · refine Or.inr ⟨e, hasE_no.mpr (fun c hcs => ?_)⟩
    obtain ⟨i, hi, rfl⟩ := List.mem_iff_getElem.mp hcs
    have := hc i hi
    rw [gd_get hi] at this
    simpa using this
/-- the i-th one of the front -/
theorem c_front {i : Nat} (hL : LuC M u m tgt E A D) (hm : 1 ≤ m ∧ m ≤ 20) (hi : i ≤ 20) : (∃ j, j < E.length ∧ f_X15_front (u : Int) (i : Int) M = some ((D j : Nat) : Int) ∧ (frontE m E)[i]? = some (E.getD j ent0)) ∨ (f_X15_front (u : Int) (i : Int) M = some (-1) ∧ (frontE m E)[i]? = none) := by
  obtain ⟨l1, l2, l3, l4, l5, l6, l7, l8, l9, l10⟩ := hL
  have k15 : (kd M u).1 = 15 := by rw [l1.1]
  have len := l9.1
  unfold f_X15_front
  rw [gfi_e k15, Option.bind_some, l1.2.2.2.2.2.2, w32_nn (by omega), w32_nn (by omega)]
  by_cases c : i < m
  · rw [if_pos (by omega)]
    have ef : ∀ (F : List Ent), (F.take m)[i]? = F[i]? := fun F => List.getElem?_take_of_lt c
    unfold frontE
    rw [ef]
    have main : ∀ (d j left fu : Nat), d + j = E.length → d < fu → left ≤ 20 → ((∃ k, k < E.length ∧ lpN (fun s : Int × Int => b_X15_front_14 (u : Int) s.1 s.2 M) fu ((left : Int), (j : Int)) = some ((D k : Nat) : Int) ∧ ((E.drop j).filter (fun x => decide (eSt x ≠ 3)))[left]? = some (E.getD k ent0)) ∨ (lpN (fun s : Int × Int => b_X15_front_14 (u : Int) s.1 s.2 M) fu ((left : Int), (j : Int)) = some (-1) ∧ ((E.drop j).filter (fun x => decide (eSt x ≠ 3)))[left]? = none)) := by
      intro d
      induction d with
      | zero =>
        intro j left fu hd hf hl
        have e : j = E.length := by omega
        subst e
        right
        refine ⟨?_, by rw [List.drop_of_length_le (Nat.le_refl _)]; rfl⟩
        refine lpN_end (b := fun s : Int × Int => b_X15_front_14 (u : Int) s.1 s.2 M) (by omega) ?_
        dsimp only
        unfold b_X15_front_14
        rw [gfi_e k15, Option.bind_some, l3, if_neg (by omega)]
      | succ d ih =>
        intro j left fu hd hf hl
        obtain ⟨f, rfl⟩ : ∃ f, fu = f + 1 := ⟨fu - 1, by omega⟩
        obtain ⟨d1, d2⟩ := l6 j (by omega)
        have es : rI M (D j) 2 = eSt (E.getD j ent0) := congrArg (fun x => x.2.2.1) (l10 j (by omega))
        have ed : E.drop j = E.getD j ent0 :: E.drop (j + 1) := by
          rw [gd_get (by omega)]; exact List.drop_eq_getElem_cons (by omega)
        have head : b_X15_front_14 (u : Int) (left : Int) (j : Int) M = if eSt (E.getD j ent0) = 3 then cnt ((left : Int), ((j + 1 : Nat) : Int)) else if left = 0 then xit (some ((D j : Nat) : Int)) else cnt ((left : Int) + (-1), ((j + 1 : Nat) : Int)) := by
          unfold b_X15_front_14 j_X15_front_52 j_X15_front_42
          rw [gfi_e k15, Option.bind_some, l3, w32_nn (by omega), w32_nn (by omega), if_pos (by omega), gfr_e k15, l1.2.1, Option.bind_some, lar_n l1.2.2.1 (by decide) (by omega) (by decide), d1, Option.bind_some, gfi_e (by rw [d2.1]), es, Option.bind_some, show w32 (eSt (E.getD j ent0)) = eSt (E.getD j ent0) by rw [← es, w32_rI], show w32 3 = 3 by decide, w32_nn (by omega)]
          by_cases c3 : eSt (E.getD j ent0) = 3
          · rw [if_pos c3, if_pos c3]; rfl
          · rw [if_neg c3, if_neg c3]
            by_cases c0 : left = 0
            · rw [if_pos (by omega), if_pos c0, Option.bind_some, lar_n l1.2.2.1 (by decide) (by omega) (by decide), d1, Option.bind_some]
            · rw [if_neg (by omega), if_neg c0]; rfl
        by_cases c3 : eSt (E.getD j ent0) = 3
        · rw [if_pos c3] at head
          rw [lpN_cnt (b := fun s : Int × Int => b_X15_front_14 (u : Int) s.1 s.2 M) (s := ((left : Int), (j : Int))) head, ed, List.filter_cons_of_neg (by simpa using c3)]
          exact ih (j + 1) left f (by omega) (by omega) hl
        · rw [if_neg c3] at head
          rw [ed, List.filter_cons_of_pos (by simpa using c3)]
          by_cases c0 : left = 0
          · rw [if_pos c0] at head
            left
            refine ⟨j, by omega, lpN_xit (b := fun s : Int × Int => b_X15_front_14 (u : Int) s.1 s.2 M) (s := ((left : Int), (j : Int))) head, ?_⟩
            rw [c0]; rfl
          · rw [if_neg c0] at head
            obtain ⟨lf, rfl⟩ : ∃ lf, left = lf + 1 := ⟨left - 1, by omega⟩
            rw [show (((lf + 1 : Nat) : Int) + (-1)) = (lf : Int) by omega] at head
            rw [lpN_cnt (b := fun s : Int × Int => b_X15_front_14 (u : Int) s.1 s.2 M) (s := (((lf + 1 : Nat) : Int), (j : Int))) head]
            have := ih (j + 1) lf f (by omega) (by omega) (by omega)
            rw [List.getElem?_cons_succ]
            exact this
    have := main E.length 0 i FU (by omega) (by unfold FU; omega) hi
    rw [List.drop_zero] at this
    exact this
  · right
    rw [if_neg (by omega)]
    refine ⟨rfl, ?_⟩
    rw [List.getElem?_eq_none]
    unfold frontE
    rw [List.length_take]
    omega
/-- the first one of the front that is in a state, or is in another one -/
theorem c_first {s : Nat} {is : Bool} (hL : LuC M u m tgt E A D) (hm : 1 ≤ m ∧ m ≤ 20) (hs : s ≤ 3) : (∃ j, j < E.length ∧ f_X15_first (u : Int) (s : Int) (b2i is) M = some ((D j : Nat) : Int) ∧ (frontE m E).find? (fun x => decide (eSt x = (s : Int)) == is) = some (E.getD j ent0)) ∨ (f_X15_first (u : Int) (s : Int) (b2i is) M = some (-1) ∧ (frontE m E).find? (fun x => decide (eSt x = (s : Int)) == is) = none) := by
  have hL0 := hL
  obtain ⟨l1, l2, l3, l4, l5, l6, l7, l8, l9, l10⟩ := hL
  have k15 : (kd M u).1 = 15 := by rw [l1.1]
  have lF : (frontE m E).length ≤ 20 := by unfold frontE; rw [List.length_take]; omega
  obtain ⟨F, hF⟩ : ∃ F, F = frontE m E := ⟨_, rfl⟩
  rw [← hF] at lF ⊢
  have main : ∀ (d i fu : Nat) (x4 : Int), d + i = F.length → d + 1 < fu → ((∃ j, j < E.length ∧ x4 = ((D j : Nat) : Int) ∧ F[i]? = some (E.getD j ent0)) ∨ (x4 = -1 ∧ F[i]? = none)) → ((∃ j, j < E.length ∧ lpN (fun q : Int × Int => b_X15_first_9 (u : Int) (s : Int) (b2i is) q.1 q.2 M) fu ((i : Int), x4) = some ((D j : Nat) : Int) ∧ (F.drop i).find? (fun x => decide (eSt x = (s : Int)) == is) = some (E.getD j ent0)) ∨ (lpN (fun q : Int × Int => b_X15_first_9 (u : Int) (s : Int) (b2i is) q.1 q.2 M) fu ((i : Int), x4) = some (-1) ∧ (F.drop i).find? (fun x => decide (eSt x = (s : Int)) == is) = none)) := by
    intro d
    induction d with
    | zero =>
      intro i fu x4 hd hf hx
      have e : i = F.length := by omega
      subst e
      rw [List.getElem?_eq_none (Nat.le_refl _)] at hx
      rcases hx with ⟨j, _, _, h⟩ | ⟨h, _⟩
      · cases h
      · right
        subst h
        refine ⟨?_, by rw [List.drop_of_length_le (Nat.le_refl _)]; rfl⟩
        refine lpN_end (b := fun q : Int × Int => b_X15_first_9 (u : Int) (s : Int) (b2i is) q.1 q.2 M) (by omega) ?_
        dsimp only
        unfold b_X15_first_9 j_X15_first_45
        rw [if_pos rfl]
    | succ d ih =>
      intro i fu x4 hd hf hx
      obtain ⟨f, rfl⟩ : ∃ f, fu = f + 1 := ⟨fu - 1, by omega⟩
      have hi : i < F.length := by omega
      rw [List.getElem?_eq_getElem hi] at hx
      rcases hx with ⟨j, j1, j2, j3⟩ | ⟨_, h⟩
      · have j3 := Option.some.inj j3
        obtain ⟨d1, d2⟩ := l6 j (by omega)
        have es : rI M (D j) 2 = eSt (E.getD j ent0) := congrArg (fun x => x.2.2.1) (l10 j j1)
        have ed : F.drop i = E.getD j ent0 :: F.drop (i + 1) := by rw [← j3]; exact List.drop_eq_getElem_cons hi
        have hw : w32 (eSt (E.getD j ent0)) = eSt (E.getD j ent0) := by rw [← es, w32_rI]
        subst j2
        have head : b_X15_first_9 (u : Int) (s : Int) (b2i is) (i : Int) ((D j : Nat) : Int) M = if (decide (eSt (E.getD j ent0) = (s : Int)) == is) = true then xit (some ((D j : Nat) : Int)) else (f_X15_front (u : Int) ((i + 1 : Nat) : Int) M).bind fun v1 => cnt (((i + 1 : Nat) : Int), v1) := by
          unfold b_X15_first_9 j_X15_first_28 j_X15_first_45
          rw [if_neg (by omega), gfi_e (by rw [d2.1]), es, Option.bind_some, hw, w32_nn (by omega), ck_e k15, w32_b2i]
          by_cases c : eSt (E.getD j ent0) = (s : Int)
          · rw [if_pos c, decide_eq_true c]
            cases is with
            | true => rw [if_pos (show w32 1 = b2i true by decide), if_pos (by decide)]
            | false => rw [if_neg (show ¬ w32 1 = b2i false by decide), if_neg (by decide)]; rfl
          · rw [if_neg c, decide_eq_false c]
            cases is with
            | true => rw [if_neg (show ¬ w32 0 = b2i true by decide), if_neg (by decide)]; rfl
            | false => rw [if_pos (show w32 0 = b2i false by decide), if_pos (by decide)]
        by_cases c : (decide (eSt (E.getD j ent0) = (s : Int)) == is) = true
        · rw [if_pos c] at head
          left
          refine ⟨j, j1, lpN_xit (b := fun q : Int × Int => b_X15_first_9 (u : Int) (s : Int) (b2i is) q.1 q.2 M) (s := ((i : Int), ((D j : Nat) : Int))) head, ?_⟩
          rw [ed, List.find?_cons_of_pos (by exact c)]
        · rw [if_neg c] at head
          rw [ed, List.find?_cons_of_neg (by exact c)]
          rcases c_front (i := i + 1) hL0 hm (by omega) with ⟨j', q1, q2, q3⟩ | ⟨q2, q3⟩
          · rw [q2, Option.bind_some] at head
            rw [lpN_cnt (b := fun q : Int × Int => b_X15_first_9 (u : Int) (s : Int) (b2i is) q.1 q.2 M) (s := ((i : Int), ((D j : Nat) : Int))) head]
            exact ih (i + 1) f _ (by omega) (by omega) (Or.inl ⟨j', q1, rfl, by rw [hF]; exact q3⟩)
          · rw [q2, Option.bind_some] at head
            rw [lpN_cnt (b := fun q : Int × Int => b_X15_first_9 (u : Int) (s : Int) (b2i is) q.1 q.2 M) (s := ((i : Int), ((D j : Nat) : Int))) head]
            exact ih (i + 1) f _ (by omega) (by omega) (Or.inr ⟨rfl, by rw [hF]; exact q3⟩)
      · cases h
  unfold f_X15_first l_X15_first_9
  rw [ck_e k15]
  rcases c_front (i := 0) hL0 hm (by omega) with ⟨j, q1, q2, q3⟩ | ⟨q2, q3⟩
  · rw [show f_X15_front (u : Int) 0 M = _ from q2, Option.bind_some]
    have := main F.length 0 FU ((D j : Nat) : Int) (by omega) (by unfold FU; omega) (Or.inl ⟨j, q1, rfl, by rw [hF]; exact q3⟩)
    rw [List.drop_zero] at this
    exact this
  · rw [show f_X15_front (u : Int) 0 M = _ from q2, Option.bind_some]
    have := main F.length 0 FU (-1) (by omega) (by unfold FU; omega) (Or.inr ⟨rfl, by rw [hF]; exact q3⟩)
    rw [List.drop_zero] at this
    exact this
theorem c_isOver (hL : LuC M u m tgt E A D) (hm : 1 ≤ m ∧ m ≤ 20) : f_X15_isOver (u : Int) M = some (b2i (allE (frontE m E))) := by
  have k15 : (kd M u).1 = 15 := by rw [hL.1.1]
  have hall : allE (frontE m E) = true ↔ (frontE m E).find? (fun x => decide (eSt x = ((2 : Nat) : Int)) == false) = none := by
    unfold allE
    rw [List.all_eq_true, List.find?_eq_none]
    constructor
    · intro h x hx
      have := h x hx
      simpa using this
    · intro h x hx
      have := h x hx
      simpa using this
  unfold f_X15_isOver j_X15_isOver_14
  rw [ck_e k15]
  rcases c_first (s := 2) (is := false) hL hm (by decide) with ⟨j, q1, q2, q3⟩ | ⟨q2, q3⟩
  · rw [show f_X15_first (u : Int) 2 0 M = _ from q2, Option.bind_some, if_neg (by omega)]
    have : allE (frontE m E) = false := by
      cases h : allE (frontE m E) with
      | false => rfl
      | true => rw [hall.mp h] at q3; cases q3
    rw [this]; rfl
  · rw [show f_X15_first (u : Int) 2 0 M = _ from q2, Option.bind_some, if_pos rfl, hall.mpr q3]; rfl
theorem c_next (hL : LuC M u m tgt E A D) (hm : 1 ≤ m ∧ m ≤ 20) : (∃ j, j < E.length ∧ f_X15_next (u : Int) M = some ((D j : Nat) : Int) ∧ nextE (frontE m E) = some (E.getD j ent0)) ∨ (f_X15_next (u : Int) M = some (-1) ∧ nextE (frontE m E) = none) := by
  have k15 : (kd M u).1 = 15 := by rw [hL.1.1]
  have hn : nextE (frontE m E) = (frontE m E).find? (fun x => decide (eSt x = ((0 : Nat) : Int)) == true) := by
    unfold nextE
    congr 1
    funext x
    cases decide (eSt x = ((0 : Nat) : Int)) <;> rfl
  rw [hn]
  unfold f_X15_next
  rw [ck_e k15]
  rcases c_first (s := 0) (is := true) hL hm (by decide) with ⟨j, q1, q2, q3⟩ | ⟨q2, q3⟩
  · exact Or.inl ⟨j, q1, by rw [show f_X15_first (u : Int) 0 1 M = _ from q2, Option.bind_some], q3⟩
  · exact Or.inr ⟨by rw [show f_X15_first (u : Int) 0 1 M = _ from q2, Option.bind_some], q3⟩
end CLOOK
