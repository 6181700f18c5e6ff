/-! requests of the class: found, sent once more, removed -/
section CREQ
variable {S : Nat → Bool} {M M1 : MM} {A : Nat → Prop} {m al N p q r r' x i : Nat} {pa : Nat → Nat} {own : Nat → Ky} {sd ps sn pu rf tl : Nat → Int} {nx lf : Nat → Nat} {Q : Nat → List Rq} {rg : RG} {Bf : Nat → Nat → Nat} {B : Nat → Nat} {y y' : Rq} {v ad : Int} {k j a : Nat} {l : List Int} {st : Nat → Int} {tm lo : Int} {fl : List Dg} {fA : Nat}
/-- kinds of a request's cells -/
theorem rq_kinds (h : isRq M r) {z : Nat} (h1 : r ≤ z) (h2 : z ≤ r + 4) : (z = r ∧ (kd M z).1 = 24) ∨ (z = r + 1 ∧ kd M z = (3, 34)) ∨ (z = r + 2 ∧ (kd M z).1 = 64) ∨ (z = r + 3 ∧ kd M z = (4, 35)) ∨ (z = r + 4 ∧ (kd M z).1 = 113) := by
  obtain ⟨g1, g2, g3, g4, g5, g6, g7⟩ := h
  have e : z = r ∨ z = r + 1 ∨ z = r + 1 + 1 ∨ z = r + 3 ∨ z = r + 3 + 1 := by omega
  rcases e with e | e | e | e | e <;> subst e
  · exact Or.inl ⟨rfl, by rw [g1]⟩
  · exact Or.inr (Or.inl ⟨rfl, g3⟩)
  · exact Or.inr (Or.inr (Or.inl ⟨rfl, by rw [g4.2.2]⟩))
  · exact Or.inr (Or.inr (Or.inr (Or.inl ⟨rfl, g6⟩)))
  · exact Or.inr (Or.inr (Or.inr (Or.inr ⟨rfl, by rw [g7.2.2]⟩)))
theorem rq_apart (h : isRq M r) (h' : isRq M r') (hne : r' ≠ r) {z : Nat} (h1 : r' ≤ z) (h2 : z ≤ r' + 4) : ¬ (r ≤ z ∧ z ≤ r + 4) := by
  rintro ⟨h3, h4⟩
  rcases Nat.lt_or_gt_of_ne hne with hl | hl
  · have a1 := rq_kinds h' (z := r) (by omega) (by omega)
    have a2 : (kd M r).1 = 24 := by rw [h.1]
    rcases a1 with w | w | w | w | w
    · omega
    · rw [w.2] at a2; exact absurd a2 (by decide)
    · omega
    · rw [w.2] at a2; exact absurd a2 (by decide)
    · omega
  · have a1 := rq_kinds h (z := r') (by omega) (by omega)
    have a2 : (kd M r').1 = 24 := by rw [h'.1]
    rcases a1 with w | w | w | w | w
    · omega
    · rw [w.2] at a2; exact absurd a2 (by decide)
    · omega
    · rw [w.2] at a2; exact absurd a2 (by decide)
    · omega
/-- a request's cells are no peer's -/
theorem rq_pe (h : isRq M r) (hP : PeS M a p) {z : Nat} (hz : z = a ∨ z = a + 1 ∨ z = a + 2 ∨ z = a + 9) : ¬ (r ≤ z ∧ z ≤ r + 4) := by
  rintro ⟨h1, h2⟩
  have kk := rq_kinds h h1 h2
  have e1 : (kd M a).1 = 17 := by rw [hP.1]
  have e2 : kd M (a + 1) = (3, 41) := hP.2.2.2.1
  have e3 : (kd M (a + 2)).1 = 64 := by rw [show a + 2 = a + 1 + 1 from rfl, hP.2.2.2.2.1.2.2]
  have e4 : (kd M (a + 9)).1 = 603 := by rw [hP.2.2.2.2.2]
  rcases hz with e | e | e | e <;> subst e
  · rcases kk with w | w | w | w | w
    · omega
    · rw [w.2] at e1; exact absurd e1 (by decide)
    · omega
    · rw [w.2] at e1; exact absurd e1 (by decide)
    · omega
  · rcases kk with w | w | w | w | w
    · rw [e2] at w; exact absurd w.2 (by decide)
    · rw [e2] at w; exact absurd w.2 (by decide)
    · rw [e2] at w; exact absurd w.2 (by decide)
    · rw [e2] at w; exact absurd w.2 (by decide)
    · rw [e2] at w; exact absurd w.2 (by decide)
  · rcases kk with w | w | w | w | w
    · omega
    · rw [w.2] at e3; exact absurd e3 (by decide)
    · have : a + 1 = r + 1 := by omega
      rw [this, h.2.2.1] at e2
      exact absurd e2 (by decide)
    · rw [w.2] at e3; exact absurd e3 (by decide)
    · omega
  · rcases kk with w | w | w | w | w
    · omega
    · rw [w.2] at e4; exact absurd e4 (by decide)
    · omega
    · rw [w.2] at e4; exact absurd e4 (by decide)
    · omega
theorem PeC_exa (h : ExA A M M1) (hA : ∀ p, p < N → ¬ A (pa p) ∧ ¬ A (pa p + 1) ∧ ¬ A (pa p + 2)) (hb : PeC M N pa own sd ps sn pu rf tl nx) : PeC M1 N pa own sd ps sn pu rf tl nx := by
  obtain ⟨hu, hi, hb⟩ := hb
  refine ⟨h.un hu, hi, fun p hp => ?_⟩
  obtain ⟨h1, h2, h3, h4, h5, h6, ⟨t1, t2, t3, t4, t5⟩, h7, h8⟩ := hb p hp
  obtain ⟨a0, a1, a2⟩ := hA p hp
  have l : pa p + 9 < nN M := hu.lt (by rw [h1.2.2.2.2.2]; decide)
  have I : ∀ i, rI M1 (pa p) i = rI M (pa p) i := fun i => h.rI (by omega) a0 i
  have R : ∀ i, rR M1 (pa p) i = rR M (pa p) i := fun i => h.rR (by omega) a0 i
  obtain ⟨s1, s2, ⟨r1, r2, r3, r4, r5, r6, r7⟩, s4, s5, s6⟩ := h1
  exact ⟨⟨by rw [h.kd (by omega)]; exact s1, by rw [I]; exact s2, ⟨by rw [R]; exact r1, by rw [R]; exact r2, by rw [R]; exact r3, by rw [R]; exact r4, by rw [R]; exact r5, by rw [R]; exact r6, by rw [R]; exact r7⟩, by rw [h.kd (by omega)]; exact s4, h.isK hu a1 s5, by rw [h.kd (by omega)]; exact s6⟩, h2, by rw [h.kC (by omega) a2]; exact h3, by rw [I]; exact h4, by rw [I]; exact h5, by rw [I]; exact h6, ⟨by rw [I]; exact t1, by rw [I]; exact t2, by rw [I]; exact t3, by rw [I]; exact t4, by rw [I]; exact t5⟩, by rw [I]; exact h7, by rw [I]; exact h8⟩
/-- a request's cells change -/
theorem rqs_upd (hR : RqsC M N pa Bf lf Q rg) (hP : PeC M N pa own sd ps sn pu rf tl nx) (hp : p < N) (hi : i < (Q p).length) (hr : r = (rg p).2 i) (hx : ExC (fun z => r ≤ z ∧ z ≤ r + 4) M M1) (hq : isRq M1 r) (hy : RqC M1 N pa (Bf p) lf r y') : RqsC M1 N pa Bf lf (fup Q p ((Q p).set i y')) rg ∧ PeC M1 N pa own sd ps sn pu rf tl nx ∧ ∀ S : Nat → Bool, S 5 = true → FK S M M1 := by
  obtain ⟨hu, hinj, hb, hj⟩ := hR
  obtain ⟨h1, h2, h3, h4, h5, h6, h7, h8, h9⟩ := hb p hp
  have hrq : isRq M r := by rw [hr]; exact (h6 i (by omega)).2
  have pe := fun q hq => (hP.2.2 q hq).1
  refine ⟨⟨hx.un hu, hinj, fun q hq' => ?_, hj⟩, PeC_exa hx.exa (fun q hq' => ⟨rq_pe hrq (pe q hq') (Or.inl rfl), rq_pe hrq (pe q hq') (Or.inr (Or.inl rfl)), rq_pe hrq (pe q hq') (Or.inr (Or.inr (Or.inl rfl)))⟩) hP, fun S hs => FK_exc hx (fun z _ hz => ?_)⟩
  · obtain ⟨g1, g2, g3, g4, g5, g6, g7, g8, g9⟩ := hb q hq'
    have a0 := rq_pe hrq (pe q hq') (z := pa q) (Or.inl rfl)
    have a9 := rq_pe hrq (pe q hq') (z := pa q + 9) (Or.inr (Or.inr (Or.inr rfl)))
    have len : (fup Q p ((Q p).set i y') q).length = (Q q).length := by
      by_cases e : q = p
      · subst e; rw [fup_eq, List.length_set]
      · rw [fup_ne e]
    have same : ∀ j, j < (rg q).1 → ¬ (q = p ∧ j = i) → (rg q).2 j ≠ r := fun j hj' hn e => by
      rw [hr] at e
      have e1 := hj q p j i hq' hp hj' (by omega) e
      subst e1
      exact hn ⟨rfl, h8 j i hj' (by omega) e⟩
    refine ⟨by rw [hx.kd]; exact g1, by rw [hx.kd]; exact g2, by rw [hx.rI a0, len]; exact g3, by rw [len]; exact g4, g5, fun j hj' => ⟨by rw [hx.rR a9]; exact (g6 j hj').1, ?_⟩, fun j b1 b2 => by rw [hx.rR a9]; exact g7 j b1 b2, g8, fun j hj' => ?_⟩
    · by_cases c : q = p ∧ j = i
      · obtain ⟨c1, c2⟩ := c
        subst c1 c2
        rw [← hr]; exact hq
      · exact (g6 j hj').2.exa hx.exa hu (fun z z1 z2 => rq_apart hrq (g6 j hj').2 (same j hj' c) z1 z2)
    · rw [len] at hj'
      by_cases c : q = p ∧ j = i
      · obtain ⟨c1, c2⟩ := c
        subst c1 c2
        rw [fup_eq, ← hr, List.getD_eq_getElem?_getD, List.getElem?_set, if_pos rfl, if_pos hi]
        exact hy
      · have : (fup Q p ((Q p).set i y') q).getD j q0 = (Q q).getD j q0 := by
          by_cases e : q = p
          · subst e
            rw [fup_eq, List.getD_eq_getElem?_getD, List.getElem?_set, if_neg (fun z => c ⟨rfl, z.symm⟩), ← List.getD_eq_getElem?_getD]
          · rw [fup_ne e]
        rw [this]
        exact (g9 j hj').exa hx.exa hu (fun z z1 z2 => rq_apart hrq (g6 j (by omega)).2 (same j (by omega) c) z1 z2) (g6 j (by omega)).2
  · obtain ⟨o1, o2, o3, o4, o5⟩ := Rq_mo hrq
    have e : z = r ∨ z = r + 1 ∨ z = r + 2 ∨ z = r + 3 ∨ z = r + 4 := by omega
    rcases e with e | e | e | e | e <;> subst e
    · rw [o1]; exact hs
    · rw [o2]; exact hs
    · rw [o3]; exact hs
    · rw [o4]; exact hs
    · rw [o5]; exact hs
/-- where the request with a number is -/
theorem c_findQ (hR : RqsC M N pa Bf lf Q rg) (hP : PeC M N pa own sd ps sn pu rf tl nx) (hp : p < N) (hv : w32 v = v) : (∃ i, i < (Q p).length ∧ f_X17_find ((pa p : Nat) : Int) v M = some (i : Int) ∧ qNum ((Q p).getD i q0) = v ∧ ∀ j, j < i → qNum ((Q p).getD j q0) ≠ v) ∨ (f_X17_find ((pa p : Nat) : Int) v M = some (-1) ∧ ∀ y, y ∈ Q p → qNum y ≠ v) := by
  obtain ⟨h1, h2, h3, h4, h5, h6, h7, h8, h9⟩ := hR.2.2.1 p hp
  have pe := (hP.2.2 p hp).1
  have step : ∀ i, i < (Q p).length → b_X17_find_2 ((pa p : Nat) : Int) v (i : Int) M = if qNum ((Q p).getD i q0) = v then xit (some (i : Int)) else cnt ((i + 1 : Nat) : Int) := by
    intro i hi
    obtain ⟨g1, _⟩ := h9 i hi
    unfold b_X17_find_2
    rw [gfi_e h1, Option.bind_some, h3, w32_nn (by omega), w32_nn (by omega), if_pos (by omega), gfr_e h1, pe.2.2.1.2.2.2.2.2.1, Option.bind_some, lar_n h2 (by decide) (by omega) (by decide), (h6 i (by omega)).1, Option.bind_some, gfi_e (by rw [(h6 i (by omega)).2.1]), Option.bind_some, g1, hv]
    rw [show w32 (qNum ((Q p).getD i q0)) = qNum ((Q p).getD i q0) by rw [← g1, w32_rI]]
    rfl
  have stop : b_X17_find_2 ((pa p : Nat) : Int) v (((Q p).length : Nat) : Int) M = xit (some (-1)) := by
    unfold b_X17_find_2
    rw [gfi_e h1, Option.bind_some, h3, if_neg (by omega)]
  have main : ∀ d i fu, d + i = (Q p).length → d < fu → (∀ j, j < i → qNum ((Q p).getD j q0) ≠ v) → (∃ k, k < (Q p).length ∧ lpN (fun s : Int => b_X17_find_2 ((pa p : Nat) : Int) v s M) fu (i : Int) = some (k : Int) ∧ qNum ((Q p).getD k q0) = v ∧ ∀ j, j < k → qNum ((Q p).getD j q0) ≠ v) ∨ (lpN (fun s : Int => b_X17_find_2 ((pa p : Nat) : Int) v s M) fu (i : Int) = some (-1) ∧ ∀ j, j < (Q p).length → qNum ((Q p).getD j q0) ≠ v) := by
    intro d
    induction d with
    | zero =>
      intro i fu hd hf hj
      have : i = (Q p).length := by omega
      subst this
      exact Or.inr ⟨lpN_end (b := fun s : Int => b_X17_find_2 ((pa p : Nat) : Int) v s M) (by omega) stop, hj⟩
    | succ d ih =>
      intro i fu hd hf hj
      obtain ⟨f, rfl⟩ : ∃ f, fu = f + 1 := ⟨fu - 1, by omega⟩
      have st := step i (by omega)
      by_cases c : qNum ((Q p).getD i q0) = v
      · rw [if_pos c] at st
        exact Or.inl ⟨i, by omega, lpN_xit (b := fun s : Int => b_X17_find_2 ((pa p : Nat) : Int) v s M) st, c, hj⟩
      · rw [if_neg c] at st
        rw [lpN_cnt (b := fun s : Int => b_X17_find_2 ((pa p : Nat) : Int) v s M) st]
        exact ih (i + 1) f (by omega) (by omega) (fun j hj' => by
          by_cases e : j = i
          · rw [e]; exact c
          · exact hj j (by omega))
  unfold f_X17_find l_X17_find_2
  rcases main (Q p).length 0 FU (by omega) (by unfold FU; omega) (fun j hj => by omega) with ⟨k, k1, k2, k3, k4⟩ | ⟨k1, k2⟩
  · exact Or.inl ⟨k, k1, k2, k3, k4⟩
  · refine Or.inr ⟨k1, fun y hy => ?_⟩
    obtain ⟨i, hi, e⟩ := List.getElem_of_mem hy
    have := k2 i hi
    rw [gd_get hi, e] at this
    exact this
theorem upQ_set {R : List Rq} {x : Rq} (hn : (R.map qNum).Nodup) (hi : i < R.length) (hx : qNum x = qNum (R.getD i q0)) : upQ R x = R.set i x := by
  unfold upQ
  refine List.ext_getElem (by simp) (fun j j1 j2 => ?_)
  rw [List.getElem_map, List.getElem_set]
  rw [List.length_map] at j1
  rw [gd_get hi] at hx
  by_cases c : i = j
  · subst c
    rw [if_pos rfl, if_pos hx.symm]
  · rw [if_neg c, if_neg (fun e => ?_)]
    have hq := List.pairwise_iff_getElem.mp hn
    have e2 : qNum R[j] = qNum R[i] := by rw [e, hx]
    rcases Nat.lt_or_gt_of_ne c with w | w
    · exact hq i j (by simpa using hi) (by simpa using j1) w (by simp only [List.getElem_map]; exact e2.symm)
    · exact hq j i (by simpa using j1) (by simpa using hi) w (by simp only [List.getElem_map]; exact e2)
end CREQ
