/-! the list of a query -/
section CLIST
variable {M M1 : MM} {Q n pk : Nat} {L tl : List It} {l : List Int} {x : It} {R : Nat → Int → Int → Int → MM → Option MM} {x1 : Int}
/-- ints of a query's own cells change -/
def A6 (Q z : Nat) : Prop := z = Q ∨ z = Q + 6 ∨ z = Q + 7 ∨ z = Q + 8
theorem A6_AQ {z : Nat} (h : A6 Q z) : AQs Q z := by unfold A6 at h; unfold AQs; omega
theorem AsS.ex {Z : Nat → Prop} (hx : Ex Z M M1) (h : AsS M Q) : AsS M1 Q := by
  obtain ⟨a1, a2, b, ⟨c1, c2⟩, ⟨d1, d2, d3⟩, e⟩ := h
  refine ⟨by rw [hx.kd]; exact a1, by simp only [hx.rR]; exact a2, by simp only [hx.kd]; exact b, ⟨c1.ex hx, by rw [hx.kd]; exact c2⟩, ⟨d1.ex hx, by rw [hx.kd]; exact d2, by rw [hx.kd]; exact d3⟩, fun i hi => ?_⟩
  obtain ⟨e0, e1, e2, e3, e4, e5⟩ := e i hi
  exact ⟨by rw [hx.rR]; exact e0, by rw [hx.kd]; exact e1, e2.ex hx, by rw [hx.rR]; exact e3, by rw [hx.kd]; exact e4, e5.ex hx⟩
theorem okL_rg (h : okL L) {i : Nat} (hi : i < L.length) : (0 ≤ (L.getD i it0).1 ∧ (L.getD i it0).1 < 32) ∧ (0 ≤ (L.getD i it0).2.1 ∧ (L.getD i it0).2.1 < 16) ∧ (0 ≤ (L.getD i it0).2.2 ∧ (L.getD i it0).2.2 ≤ 900) := h.2.2 _ (getD_mem hi)
/-- where an item is -/
theorem c_lplace {f e : Nat} (hS : AsS M Q) (hL : AsL M Q L) (hk : okL L) (he : e ≤ L.length) (hx : (0 ≤ x.1 ∧ x.1 < 32) ∧ (0 ≤ x.2.1 ∧ x.2.1 < 16)) (hf : f ≤ 200) : (∃ i, f ≤ i ∧ i < e ∧ f_X31_place (Q : Int) x.1 x.2.1 (f : Int) (e : Int) M = some (i : Int) ∧ od (L.getD i it0) = od x) ∨ (f_X31_place (Q : Int) x.1 x.2.1 (f : Int) (e : Int) M = some (-1) ∧ ∀ i, f ≤ i → i < e → od (L.getD i it0) ≠ od x) := by
  have l2 := hL.2.1
  have k31 : (kd M Q).1 = 31 := by rw [hS.1]
  have body : ∀ j : Nat, b_X31_place_3 (Q : Int) x.1 x.2.1 (e : Int) (j : Int) M = if j < e ∧ j ≤ 200 then (if od (L.getD j it0) = od x then xit (some (j : Int)) else some (.inl ((j + 1 : Nat) : Int))) else if j ≤ 200 then xit (some (-1)) else b_X31_place_3 (Q : Int) x.1 x.2.1 (e : Int) (j : Int) M := fun j => by
    by_cases c : j < e
    · rw [if_pos ⟨c, by omega⟩]
      obtain ⟨r1, r2, r3⟩ := okL_rg hk (show j < L.length by omega)
      obtain ⟨g1, g2, g3⟩ := hL.2.2 j (by omega)
      unfold b_X31_place_3 j_X31_place_35
      rw [w32_nn (by omega), w32_nn (by omega), if_pos (by omega), gfr_e k31, hS.2.1.2.2.2.2.2.1, Option.bind_some, lai_e (k := 704) (l := 200) (j := j) hS.2.2.1.2.2.2.2.2.1 (by decide) (by decide) (w32_nn (by omega)) (by omega), g1, Option.bind_some, w32s (by omega), w32s (by omega)]
      by_cases c1 : (L.getD j it0).1 = x.1
      · rw [if_pos c1, gfr_e k31, hS.2.1.2.2.2.2.2.2.1, Option.bind_some, lai_e (k := 720) (l := 200) (j := j) hS.2.2.1.2.2.2.2.2.2.1 (by decide) (by decide) (w32_nn (by omega)) (by omega), g2, Option.bind_some, w32s (by omega), w32s (by omega)]
        by_cases c2 : (L.getD j it0).2.1 = x.2.1
        · rw [if_pos c2, if_pos (show od (L.getD j it0) = od x from odv.mpr ⟨c1, c2⟩)]
        · rw [if_neg c2, if_neg (show ¬ od (L.getD j it0) = od x from fun z => c2 (odv.mp z).2)]; rfl
      · rw [if_neg c1, if_neg (show ¬ od (L.getD j it0) = od x from fun z => c1 (odv.mp z).1)]; rfl
    · rw [if_neg (fun z => c z.1)]
      by_cases c2 : j ≤ 200
      · rw [if_pos c2]
        unfold b_X31_place_3
        rw [w32_nn (by omega), w32_nn (by omega), if_neg (by omega)]
      · rw [if_neg c2]
  have loop : ∀ (d j fu : Nat), d + j = max e f → f ≤ j → d < fu → (∀ i, f ≤ i → i < j → od (L.getD i it0) ≠ od x) → (∃ i, f ≤ i ∧ i < e ∧ lpN (fun s : Int => b_X31_place_3 (Q : Int) x.1 x.2.1 (e : Int) s M) fu (j : Int) = some (i : Int) ∧ od (L.getD i it0) = od x) ∨ (lpN (fun s : Int => b_X31_place_3 (Q : Int) x.1 x.2.1 (e : Int) s M) fu (j : Int) = some (-1) ∧ ∀ i, f ≤ i → i < e → od (L.getD i it0) ≠ od x) := by
    intro d
    induction d with
    | zero =>
      intro j fu hj hfj hfu hno
      right
      refine ⟨lpN_end (by omega) ?_, fun i h1 h2 => hno i h1 (by omega)⟩
      show b_X31_place_3 (Q : Int) x.1 x.2.1 (e : Int) (j : Int) M = _
      rw [body, if_neg (by omega), if_pos (by omega)]
    | succ d ih =>
      intro j fu hj hfj hfu hno
      obtain ⟨fu', rfl⟩ : ∃ f, fu = f + 1 := ⟨fu - 1, by omega⟩
      by_cases c : od (L.getD j it0) = od x
      · left
        refine ⟨j, hfj, by omega, lpN_end (by omega) ?_, c⟩
        show b_X31_place_3 (Q : Int) x.1 x.2.1 (e : Int) (j : Int) M = _
        rw [body, if_pos (by omega), if_pos c]
      · have eb : b_X31_place_3 (Q : Int) x.1 x.2.1 (e : Int) (j : Int) M = some (.inl ((j + 1 : Nat) : Int)) := by rw [body, if_pos (by omega), if_neg c]
        rw [lpN_cnt (b := fun s : Int => b_X31_place_3 (Q : Int) x.1 x.2.1 (e : Int) s M) (s := (j : Int)) eb]
        exact ih (j + 1) fu' (by omega) (by omega) (by omega) (fun i h1 h2 => by
          by_cases e : i = j
          · rw [e]; exact c
          · exact hno i h1 (by omega))
  exact loop (max e f - f) f FU (by omega) (Nat.le_refl _) (by unfold FU; omega) (fun i h1 h2 => by omega)
/-- one comes to the list -/
theorem AsL_app (hS : AsS M Q) (hL : AsL M Q L) (hl : L.length < 200) (hx : w32 x.1 = x.1 ∧ w32 x.2.1 = x.2.1 ∧ w32 x.2.2 = x.2.2) : AsL (sI (sI (sI (sI M (Q + 6) L.length x.1) (Q + 7) L.length x.2.1) (Q + 8) L.length x.2.2) Q 13 ((L.length : Int) + 1)) Q (L ++ [x]) := by
  refine ⟨by rw [rI_eq rfl, List.length_append, w32_id (by omega) (by omega)]; show _ = ((L.length + 1 : Nat) : Int); omega, by rw [List.length_append]; show L.length + 1 ≤ 200; omega, fun i hi => ?_⟩
  rw [List.length_append] at hi
  have hi : i < L.length + 1 := hi
  rw [rI_ne (show ¬ (Q + 6 = Q ∧ _) by omega), rI_ne (show ¬ (Q + 6 = Q + 8 ∧ _) by omega), rI_ne (show ¬ (Q + 6 = Q + 7 ∧ _) by omega), rI_ne (show ¬ (Q + 7 = Q ∧ _) by omega), rI_ne (show ¬ (Q + 7 = Q + 8 ∧ _) by omega), rI_ne (show ¬ (Q + 8 = Q ∧ _) by omega)]
  by_cases c : i = L.length
  · rw [c, rI_eq rfl, rI_eq rfl, rI_eq rfl, hx.1, hx.2.1, hx.2.2, List.getD_eq_getElem?_getD, List.getElem?_append_right (Nat.le_refl _), Nat.sub_self]
    exact ⟨rfl, rfl, rfl⟩
  · obtain ⟨g1, g2, g3⟩ := hL.2.2 i (by omega)
    rw [rI_ne (fun z => c z.2), rI_ne (fun z => c z.2), rI_ne (show ¬ (Q + 7 = Q + 6 ∧ _) by omega), rI_ne (fun z => c z.2), rI_ne (show ¬ (Q + 8 = Q + 7 ∧ _) by omega), rI_ne (show ¬ (Q + 8 = Q + 6 ∧ _) by omega), List.getD_eq_getElem?_getD, List.getElem?_append_left (by omega), ← List.getD_eq_getElem?_getD]
    exact ⟨g1, g2, g3⟩
/-- MATCHES come to the list -/
theorem c_listLoop (hS : AsS M Q) (hL : AsL M Q L) (hk : okL L) (hq : PkC M pk l) (hb : isBL l) (hn : l.getD 26 0 = (n : Int)) (hn2 : n ≤ 30) (hl : 27 + 3 * n ≤ l.length) (hok : okM (rdI l 27 n)) (hpq : ¬ AQs Q pk ∧ ¬ AQs Q (pk + 1)) :
    ∃ M', l_X31_listed_21 R (Q : Int) x1 (pk : Int) (n : Int) 0 M = j_X31_listed_146 R (Q : Int) x1 (pk : Int) M' ∧ AsL M' Q ((rdI l 27 n).foldl addL L) ∧ Ex (A6 Q) M M' ∧ ∀ i, i ≠ 13 → rI M' Q i = rI M Q i := by
  have hrl : (rdI l 27 n).length = n := by unfold rdI; rw [List.length_map, List.length_range]
  have loop : ∀ (d j fu : Nat) (U : MM), d + j = n → d < fu → AsL U Q (((rdI l 27 n).take j).foldl addL L) → Ex (A6 Q) M U → (∀ i, i ≠ 13 → rI U Q i = rI M Q i) → ∃ M', lpN (fun s : Int × MM => b_X31_listed_21 R (Q : Int) x1 (pk : Int) (n : Int) s.1 s.2) fu ((j : Int), U) = j_X31_listed_146 R (Q : Int) x1 (pk : Int) M' ∧ AsL M' Q ((rdI l 27 n).foldl addL L) ∧ Ex (A6 Q) M M' ∧ ∀ i, i ≠ 13 → rI M' Q i = rI M Q i := by
    intro d
    induction d with
    | zero =>
      intro j fu U hj hf hU hE hI
      have : j = n := by omega
      subst this
      rw [List.take_of_length_le (by omega)] at hU
      refine ⟨U, lpN_end (by omega) ?_, hU, hE, hI⟩
      show b_X31_listed_21 R (Q : Int) x1 (pk : Int) (j : Int) (j : Int) U = _
      unfold b_X31_listed_21
      rw [if_neg (by omega)]
    | succ d ih =>
      intro j fu U hj hf hU hE hI
      obtain ⟨fu', rfl⟩ : ∃ f, fu = f + 1 := ⟨fu - 1, by omega⟩
      obtain ⟨x, hx⟩ : ∃ x, x = (rdI l 27 n).getD j it0 := ⟨_, rfl⟩
      have xv : x = (l.getD (27 + 3 * j) 0, l.getD (27 + 3 * j + 1) 0, l.getD (27 + 3 * j + 2) 0) := by rw [hx]; exact rdI_get (by omega)
      have xo := hok.2 x (by rw [hx]; exact getD_mem (by omega))
      obtain ⟨Lj, hLj⟩ : ∃ Lj, Lj = ((rdI l 27 n).take j).foldl addL L := ⟨_, rfl⟩
      rw [← hLj] at hU
      have okj : okL Lj := by rw [hLj]; exact okL_adds hk (fun z hz => hok.2 z (List.mem_of_mem_take hz))
      have nxt : ((rdI l 27 n).take (j + 1)).foldl addL L = addL Lj x := by
        rw [List.take_succ, List.getElem?_eq_getElem (by omega), List.foldl_append, ← hLj]
        show addL Lj (rdI l 27 n)[j] = _
        rw [hx, gd_get (show j < (rdI l 27 n).length by omega)]
      have SU : AsS U Q := hS.ex hE
      have pkU : PkC U pk l := hq.ex hE (fun z => hpq.1 (A6_AQ z)) (fun z => hpq.2 (A6_AQ z))
      have k31 : (kd U Q).1 = 31 := by rw [SU.1]
      have l200 := okj.1
      have g0 : f_X4_get (pk : Int) (27 + (3 * (j : Int))) 1 U = some x.1 := by rw [pk_get1 (q := 27 + 3 * j) pkU (by omega) (by omega), xv]
      have g1 : f_X4_get (pk : Int) ((27 + (3 * (j : Int))) + 1) 1 U = some x.2.1 := by rw [pk_get1 (q := 27 + 3 * j + 1) pkU (by omega) (by omega), xv]
      have stepc : ∀ U2, b_X31_listed_21 R (Q : Int) x1 (pk : Int) (n : Int) (j : Int) U = some (.inl (((j + 1 : Nat) : Int), U2)) → AsL U2 Q (addL Lj x) → Ex (A6 Q) M U2 → (∀ i, i ≠ 13 → rI U2 Q i = rI M Q i) → ∃ M', lpN (fun s : Int × MM => b_X31_listed_21 R (Q : Int) x1 (pk : Int) (n : Int) s.1 s.2) (fu' + 1) ((j : Int), U) = j_X31_listed_146 R (Q : Int) x1 (pk : Int) M' ∧ AsL M' Q ((rdI l 27 n).foldl addL L) ∧ Ex (A6 Q) M M' ∧ ∀ i, i ≠ 13 → rI M' Q i = rI M Q i := fun U2 e1 e2 e3 e4 => by
        obtain ⟨M', r1, r2, r3, r4⟩ := ih (j + 1) fu' U2 (by omega) (by omega) (by rw [nxt]; exact e2) e3 e4
        refine ⟨M', ?_, r2, r3, r4⟩
        rw [lpN_cnt (b := fun s : Int × MM => b_X31_listed_21 R (Q : Int) x1 (pk : Int) (n : Int) s.1 s.2) (s := ((j : Int), U)) e1]
        exact r1
      have head : b_X31_listed_21 R (Q : Int) x1 (pk : Int) (n : Int) (j : Int) U = if Lj.length = 200 then some (.inl (((j + 1 : Nat) : Int), U)) else (f_X31_place (Q : Int) x.1 x.2.1 0 (Lj.length : Int) U).bind fun v5 => if w32 v5 = w32 (-1) then some (.inl (((j + 1 : Nat) : Int), sI (sI (sI (sI U (Q + 6) Lj.length x.1) (Q + 7) Lj.length x.2.1) (Q + 8) Lj.length x.2.2) Q 13 ((Lj.length : Int) + 1))) else some (.inl (((j + 1 : Nat) : Int), U)) := by
        unfold b_X31_listed_21 j_X31_listed_140
        rw [w32_nn (by omega), w32_nn (by omega), if_pos (by omega), gfi_e k31, hU.1, Option.bind_some, w32_nn (by omega)]
        by_cases c : Lj.length = 200
        · rw [if_pos (show ((Lj.length : Nat) : Int) = w32 200 from by show ((Lj.length : Nat) : Int) = 200; omega), if_pos c]; rfl
        · rw [if_neg (show ¬ ((Lj.length : Nat) : Int) = w32 200 from by show ¬ ((Lj.length : Nat) : Int) = 200; omega), if_neg c, ck_e pkU.1.1, g0, Option.bind_some, ck_e pkU.1.1, g1, Option.bind_some, Option.bind_some, ck_e k31]
          congr 1
          funext v5
          by_cases d : w32 v5 = w32 (-1)
          · rw [if_pos d, if_pos d]
            have ex6 : Ex (A6 Q) U (sI U (Q + 6) Lj.length x.1) := Ex.st (A := A6 Q) (Or.inr (Or.inl rfl))
            have ex7 : Ex (A6 Q) U (sI (sI U (Q + 6) Lj.length x.1) (Q + 7) Lj.length x.2.1) := ex6.trans (Ex.st (A := A6 Q) (Or.inr (Or.inr (Or.inl rfl))))
            have pk6 : PkC (sI U (Q + 6) Lj.length x.1) pk l := pkU.ex ex6 (fun z => hpq.1 (A6_AQ z)) (fun z => hpq.2 (A6_AQ z))
            have pk7 : PkC (sI (sI U (Q + 6) Lj.length x.1) (Q + 7) Lj.length x.2.1) pk l := pkU.ex ex7 (fun z => hpq.1 (A6_AQ z)) (fun z => hpq.2 (A6_AQ z))
            have q1 : f_X4_get (pk : Int) ((27 + (3 * (j : Int))) + 1) 1 (sI U (Q + 6) Lj.length x.1) = some x.2.1 := by rw [pk_get1 (q := 27 + 3 * j + 1) pk6 (by omega) (by omega), xv]
            have q2 : f_X4_get (pk : Int) ((27 + (3 * (j : Int))) + 2) 1 (sI (sI U (Q + 6) Lj.length x.1) (Q + 7) Lj.length x.2.1) = some x.2.2 := by rw [pk_get1 (q := 27 + 3 * j + 2) pk7 (by omega) (by omega), xv]
            have i6 : rI (sI U (Q + 6) Lj.length x.1) Q 13 = (Lj.length : Int) := by rw [rI_ne (by omega)]; exact hU.1
            have i7 : rI (sI (sI U (Q + 6) Lj.length x.1) (Q + 7) Lj.length x.2.1) Q 13 = (Lj.length : Int) := by rw [rI_ne (by omega)]; exact i6
            unfold j_X31_listed_130 j_X31_listed_140
            rw [gfr_e k31, SU.2.1.2.2.2.2.2.1, Option.bind_some, Option.bind_some, ck_e pkU.1.1, Option.bind_some, sai_e (k := 704) (l := 200) (j := Lj.length) SU.2.2.1.2.2.2.2.2.1 (by decide) (by decide) (w32_nn (by omega)) (by omega), Option.bind_some, gfr_e (by rw [kd_sI]; exact k31), rR_sI, SU.2.1.2.2.2.2.2.2.1, Option.bind_some, gfi_e (by rw [kd_sI]; exact k31), i6, Option.bind_some, ck_e (by rw [kd_sI]; exact pkU.1.1), q1, Option.bind_some, sai_e (k := 720) (l := 200) (j := Lj.length) (show kd (sI U (Q + 6) Lj.length x.1) (Q + 7) = (720, 200) from SU.2.2.1.2.2.2.2.2.2.1) (by decide) (by decide) (w32_nn (by omega)) (by omega), Option.bind_some, gfr_e (by rw [kd_sI, kd_sI]; exact k31), rR_sI, rR_sI, SU.2.1.2.2.2.2.2.2.2.1, Option.bind_some, gfi_e (by rw [kd_sI, kd_sI]; exact k31), i7, Option.bind_some, ck_e (by rw [kd_sI, kd_sI]; exact pkU.1.1), q2, Option.bind_some, sai_e (k := 736) (l := 200) (j := Lj.length) (show kd (sI (sI U (Q + 6) Lj.length x.1) (Q + 7) Lj.length x.2.1) (Q + 8) = (736, 200) from SU.2.2.1.2.2.2.2.2.2.2.1) (by decide) (by decide) (w32_nn (by omega)) (by omega), Option.bind_some, gfi_e (by rw [kd_sI, kd_sI, kd_sI]; exact k31), rI_ne (by omega), i7, Option.bind_some, pfi_e (by rw [kd_sI, kd_sI, kd_sI]; exact k31), Option.bind_some]
            rfl
          · rw [if_neg d, if_neg d]; rfl
      by_cases c : Lj.length = 200
      · rw [if_pos c] at head
        exact stepc U head (by unfold addL; rw [if_pos (Or.inl c)]; exact hU) hE hI
      · rw [if_neg c] at head
        rcases c_lplace (x := x) (f := 0) (e := Lj.length) SU hU okj (Nat.le_refl _) ⟨xo.1, xo.2.1⟩ (by omega) with ⟨i, i1, i2, i3, i4⟩ | ⟨i3, i4⟩
        · have i3 : f_X31_place (Q : Int) x.1 x.2.1 0 (Lj.length : Int) U = some (i : Int) := i3
          rw [i3, Option.bind_some, w32_nn (by omega), if_neg (show ¬ (i : Int) = w32 (-1) from by show ¬ (i : Int) = -1; omega)] at head
          refine stepc U head ?_ hE hI
          unfold addL
          rw [if_pos (Or.inr (List.mem_map.mpr ⟨Lj.getD i it0, getD_mem i2, i4⟩))]
          exact hU
        · have i3 : f_X31_place (Q : Int) x.1 x.2.1 0 (Lj.length : Int) U = some (-1) := i3
          rw [i3, Option.bind_some, if_pos rfl] at head
          have na : addL Lj x = Lj ++ [x] := by
            unfold addL
            rw [if_neg (fun z => z.elim c (fun y => by
              obtain ⟨w, hw, ew⟩ := List.mem_map.mp y
              obtain ⟨i, hi, ei⟩ := List.getElem_of_mem hw
              exact i4 i (by omega) hi (by rw [gd_get hi, ei]; exact ew)))]
          refine stepc _ head ?_ ?_ (fun i z => ?_)
          · rw [na]; exact AsL_app SU hU (by omega) ⟨w32s (by omega), w32s (by omega), w32s (by omega)⟩
          · exact hE.trans ((((Ex.st (A := A6 Q) (Or.inr (Or.inl rfl))).trans (Ex.st (A := A6 Q) (Or.inr (Or.inr (Or.inl rfl))))).trans (Ex.st (A := A6 Q) (Or.inr (Or.inr (Or.inr rfl))))).trans (Ex.st (A := A6 Q) (Or.inl rfl)))
          · rw [rI_ne (by omega), rI_ne (by omega), rI_ne (by omega), rI_ne (by omega)]; exact hI i z
  exact loop n 0 FU M (by omega) (by unfold FU; omega) hL .refl (fun _ _ => rfl)
end CLIST
