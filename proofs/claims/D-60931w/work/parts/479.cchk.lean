/-! a CHECK comes to the list of a query -/
theorem chk_no {tl : List It} {y : It} (h : chkB tl y = false) : chk1 tl y = y := by
  unfold chk1
  have : tl.find? (fun z => decide (od z = od y)) = none := by
    rw [List.find?_eq_none]
    intro z hz e
    have e : od z = od y := by simpa using e
    unfold chkB at h
    have : od y ∈ tl.map od := List.mem_map.mpr ⟨z, hz, e⟩
    rw [decide_eq_true this] at h; cases h
  rw [this]
section CCHK
variable {M M1 : MM} {Q n pk f e : Nat} {L tl : List It} {F : List Bool} {l : List Int} {x : It} {R : Nat → Int → Int → Int → MM → Option MM} {x1 : Int}
def A9 (Q z : Nat) : Prop := z = Q + 8 ∨ z = Q + 9
theorem A9_AQ {z : Nat} (h : A9 Q z) : AQs Q z := by unfold A9 at h; unfold AQs; omega
theorem AsL_8 {i : Nat} {v : Int} (hL : AsL M Q L) (hi : i < L.length) (hv : w32 v = v) : AsL (sI M (Q + 8) i v) Q (L.set i ((L.getD i it0).1, (L.getD i it0).2.1, v)) := by
  refine ⟨by rw [rI_ne (by omega), List.length_set]; exact hL.1, by rw [List.length_set]; exact hL.2.1, fun j hj => ?_⟩
  rw [List.length_set] at hj
  obtain ⟨g1, g2, g3⟩ := hL.2.2 j hj
  rw [rI_ne (show ¬ (Q + 6 = Q + 8 ∧ _) by omega), rI_ne (show ¬ (Q + 7 = Q + 8 ∧ _) by omega), List.getD_eq_getElem?_getD, List.getElem?_set]
  by_cases c : i = j
  · subst c
    rw [if_pos rfl, if_pos hi, rI_eq rfl, hv]
    exact ⟨g1, g2, rfl⟩
  · rw [if_neg c, rI_ne (fun z => c z.2.symm), ← List.getD_eq_getElem?_getD]
    exact ⟨g1, g2, g3⟩
theorem AsL_9 {i : Nat} {v : Int} (hL : AsL M Q L) : AsL (sI M (Q + 9) i v) Q L := by
  refine ⟨by rw [rI_ne (by omega)]; exact hL.1, hL.2.1, fun j hj => ?_⟩
  rw [rI_ne (by omega), rI_ne (by omega), rI_ne (by omega)]; exact hL.2.2 j hj
theorem c_checked0 (hS : AsS M Q) (hL : AsL M Q L) (hk : okL L) (h16 : rI M Q 16 = (f : Int)) (hf : f < L.length) (hs : ∀ z, z ∈ L → z.2.2 ≤ 800) (hF : F.length = f) (hF2 : ∀ i, i < F.length → rI M (Q + 9) i = b2i (F.getD i false)) (hq : PkC M pk l) (hb : isBL l) (hn : l.getD 25 0 = (n : Int)) (hn2 : n ≤ 30) (hl : 26 + 3 * n ≤ l.length) (hok : okM (rdI l 26 n)) (hpq : ¬ AQs Q pk ∧ ¬ AQs Q (pk + 1)) :
    ∃ M', f_X31_checked R (Q : Int) x1 (pk : Int) M = j_X31_checked_148 R (Q : Int) x1 ((min (f + 30) L.length : Nat) : Int) M' ∧ AsL M' Q (tcL f (rdI l 26 n) L) ∧ (∀ i, i < (tcF f (rdI l 26 n) L F).length → rI M' (Q + 9) i = b2i ((tcF f (rdI l 26 n) L F).getD i false)) ∧ (tcF f (rdI l 26 n) L F).length = min (f + 30) L.length ∧ Ex (A9 Q) M M' := by
  obtain ⟨tl, htl⟩ : ∃ tl, tl = rdI l 26 n := ⟨_, rfl⟩
  rw [← htl] at hok ⊢
  have tln : tl.length = n := by rw [htl]; unfold rdI; rw [List.length_map, List.length_range]
  obtain ⟨e, he⟩ : ∃ e, e = min (f + 30) L.length := ⟨_, rfl⟩
  rw [← he]
  have l2 := hL.2.1
  have k31 : (kd M Q).1 = 31 := by rw [hS.1]
  have jm : jmin ((f : Int) + 30) (L.length : Int) = (e : Int) := by
    unfold jmin
    rw [w32_nn (by omega), show (f : Int) + 30 = ((f + 30 : Nat) : Int) from by omega, w32_nn (by omega)]
    split <;> omega
  -- flags are cleared
  have clr : ∀ (d j fu : Nat) (U : MM), d + j = e → f ≤ j → d < fu → Ex (fun z => z = Q + 9) M U → (∀ i, i < f → rI U (Q + 9) i = rI M (Q + 9) i) → (∀ i, f ≤ i → i < j → rI U (Q + 9) i = 0) → ∃ U', lpN (fun s : Int × MM => b_X31_checked_21 R (Q : Int) x1 (pk : Int) (e : Int) s.1 s.2) fu ((j : Int), U) = j_X31_checked_41 R (Q : Int) x1 (pk : Int) (e : Int) U' ∧ Ex (fun z => z = Q + 9) M U' ∧ (∀ i, i < f → rI U' (Q + 9) i = rI M (Q + 9) i) ∧ ∀ i, f ≤ i → i < e → rI U' (Q + 9) i = 0 := by
    intro d
    induction d with
    | zero =>
      intro j fu U hj hfj hfu hE h1 h2
      have : j = e := by omega
      subst this
      refine ⟨U, lpN_end (by omega) ?_, hE, h1, h2⟩
      show b_X31_checked_21 R (Q : Int) x1 (pk : Int) (j : Int) (j : Int) U = _
      unfold b_X31_checked_21
      rw [if_neg (by omega)]
    | succ d ih =>
      intro j fu U hj hfj hfu hE h1 h2
      obtain ⟨fu', rfl⟩ : ∃ f, fu = f + 1 := ⟨fu - 1, by omega⟩
      have S1 : AsS U Q := hS.ex hE
      obtain ⟨U', r1, r2, r3, r4⟩ := ih (j + 1) fu' (sI U (Q + 9) j 0) (by omega) (by omega) (by omega) (hE.trans (Ex.st (A := fun z => z = Q + 9) rfl)) (fun i hi => by rw [rI_ne (by omega)]; exact h1 i hi) (fun i h3 h4 => by
        by_cases c : i = j
        · rw [c, rI_eq rfl]; rfl
        · rw [rI_ne (by omega)]; exact h2 i h3 (by omega))
      refine ⟨U', ?_, r2, r3, r4⟩
      rw [lpN_cnt (b := fun s : Int × MM => b_X31_checked_21 R (Q : Int) x1 (pk : Int) (e : Int) s.1 s.2) (s := ((j : Int), U)) (s' := (((j + 1 : Nat) : Int), sI U (Q + 9) j 0))]
      · exact r1
      · show b_X31_checked_21 R (Q : Int) x1 (pk : Int) (e : Int) (j : Int) U = _
        unfold b_X31_checked_21
        rw [w32_nn (by omega), w32_nn (by omega), if_pos (by omega), gfr_e (by rw [S1.1]), S1.2.1.2.2.2.2.2.2.2.2.1, Option.bind_some, saz_e (k := 754) (l := 200) (j := j) S1.2.2.1.2.2.2.2.2.2.2.2 (by decide) (by decide) (w32_nn (by omega)) (by omega) (Or.inl rfl), Option.bind_some]
        rfl
  obtain ⟨U0, c1, c2, c3, c4⟩ := clr (e - f) f FU M (by omega) (Nat.le_refl _) (by unfold FU; omega) .refl (fun _ _ => rfl) (fun i h1 h2 => by omega)
  have L0 : AsL U0 Q L := by
    refine ⟨by rw [c2.rI (by omega)]; exact hL.1, hL.2.1, fun j hj => ?_⟩
    rw [c2.rI (by omega), c2.rI (by omega), c2.rI (by omega)]; exact hL.2.2 j hj
  -- those that were told
  have told : ∀ (d k fu : Nat) (U : MM), d + k = n → d < fu → Ex (A9 Q) M U → AsL U Q (tcL f (tl.take k) L) → (∀ i, i < f → rI U (Q + 9) i = rI M (Q + 9) i) → (∀ i, f ≤ i → i < e → rI U (Q + 9) i = b2i (chkB (tl.take k) (L.getD i it0))) → ∃ U', lpN (fun s : Int × MM => b_X31_checked_53 R (Q : Int) x1 (pk : Int) (e : Int) (n : Int) s.1 s.2) fu ((k : Int), U) = j_X31_checked_148 R (Q : Int) x1 (e : Int) U' ∧ Ex (A9 Q) M U' ∧ AsL U' Q (tcL f tl L) ∧ (∀ i, i < f → rI U' (Q + 9) i = rI M (Q + 9) i) ∧ ∀ i, f ≤ i → i < e → rI U' (Q + 9) i = b2i (chkB tl (L.getD i it0)) := by
    intro d
    induction d with
    | zero =>
      intro k fu U hk0 hfu hE hU h1 h2
      have : k = n := by omega
      subst this
      rw [List.take_of_length_le (by omega)] at hU
      refine ⟨U, lpN_end (by omega) ?_, hE, hU, h1, fun i z1 z2 => by rw [h2 i z1 z2, List.take_of_length_le (by omega)]⟩
      show b_X31_checked_53 R (Q : Int) x1 (pk : Int) (e : Int) (k : Int) (k : Int) U = _
      unfold b_X31_checked_53
      rw [if_neg (by omega)]
    | succ d ih =>
      intro k fu U hk0 hfu hE hU h1 h2
      obtain ⟨fu', rfl⟩ : ∃ f, fu = f + 1 := ⟨fu - 1, by omega⟩
      obtain ⟨x, hx⟩ : ∃ x, x = tl.getD k it0 := ⟨_, rfl⟩
      have kn : k < tl.length := by omega
      have xv : x = (l.getD (26 + 3 * k) 0, l.getD (26 + 3 * k + 1) 0, l.getD (26 + 3 * k + 2) 0) := by rw [hx, htl]; exact rdI_get (by omega)
      have xo := hok.2 x (by rw [hx]; exact getD_mem kn)
      have SU : AsS U Q := hS.ex hE
      have k31U : (kd U Q).1 = 31 := by rw [SU.1]
      have pkU : PkC U pk l := hq.ex hE (fun z => hpq.1 (A9_AQ z)) (fun z => hpq.2 (A9_AQ z))
      have okk : okL (tcL f (tl.take k) L) := okL_tc hk ⟨by rw [List.length_take]; have := hok.1; omega, fun z hz => hok.2 z (List.mem_of_mem_take hz)⟩ hs
      have lenk : (tcL f (tl.take k) L).length = L.length := tcL_len
      have odk : ∀ i, i < L.length → od ((tcL f (tl.take k) L).getD i it0) = od (L.getD i it0) := fun i hi => by
        rw [tcL_get hi]
        by_cases c : f ≤ i ∧ i < f + 30
        · rw [if_pos c]; exact chk1_od
        · rw [if_neg c]
      have cs : ∀ i, i < L.length → chkB (tl.take (k + 1)) (L.getD i it0) = (chkB (tl.take k) (L.getD i it0) || decide (od x = od (L.getD i it0))) ∧ chk1 (tl.take (k + 1)) (L.getD i it0) = if chkB (tl.take k) (L.getD i it0) = true then chk1 (tl.take k) (L.getD i it0) else if od x = od (L.getD i it0) then ((L.getD i it0).1, (L.getD i it0).2.1, (L.getD i it0).2.2 + x.2.2) else L.getD i it0 := fun i hi => by rw [hx]; exact chk_s kn
      have same : ∀ i, i < L.length → (od x ≠ od (L.getD i it0) ∨ chkB (tl.take k) (L.getD i it0) = true) → chkB (tl.take (k + 1)) (L.getD i it0) = chkB (tl.take k) (L.getD i it0) ∧ chk1 (tl.take (k + 1)) (L.getD i it0) = chk1 (tl.take k) (L.getD i it0) := fun i hi z => by
        obtain ⟨a1, a2⟩ := cs i hi
        cases hb2 : chkB (tl.take k) (L.getD i it0) with
        | true => rw [a1, a2, hb2, if_pos rfl]; exact ⟨rfl, rfl⟩
        | false =>
          have z : od x ≠ od (L.getD i it0) := z.resolve_right (by rw [hb2]; decide)
          rw [a1, a2, hb2, if_neg (by decide), if_neg z, decide_eq_false z, chk_no hb2]; exact ⟨rfl, rfl⟩
      have stepc : ∀ U2, b_X31_checked_53 R (Q : Int) x1 (pk : Int) (e : Int) (n : Int) (k : Int) U = some (.inl (((k + 1 : Nat) : Int), U2)) → Ex (A9 Q) M U2 → AsL U2 Q (tcL f (tl.take (k + 1)) L) → (∀ i, i < f → rI U2 (Q + 9) i = rI M (Q + 9) i) → (∀ i, f ≤ i → i < e → rI U2 (Q + 9) i = b2i (chkB (tl.take (k + 1)) (L.getD i it0))) → ∃ U', lpN (fun s : Int × MM => b_X31_checked_53 R (Q : Int) x1 (pk : Int) (e : Int) (n : Int) s.1 s.2) (fu' + 1) ((k : Int), U) = j_X31_checked_148 R (Q : Int) x1 (e : Int) U' ∧ Ex (A9 Q) M U' ∧ AsL U' Q (tcL f tl L) ∧ (∀ i, i < f → rI U' (Q + 9) i = rI M (Q + 9) i) ∧ ∀ i, f ≤ i → i < e → rI U' (Q + 9) i = b2i (chkB tl (L.getD i it0)) := fun U2 z1 z2 z3 z4 z5 => by
        obtain ⟨U', r1, r2⟩ := ih (k + 1) fu' U2 (by omega) (by omega) z2 z3 z4 z5
        refine ⟨U', ?_, r2⟩
        rw [lpN_cnt (b := fun s : Int × MM => b_X31_checked_53 R (Q : Int) x1 (pk : Int) (e : Int) (n : Int) s.1 s.2) (s := ((k : Int), U)) z1]
        exact r1
      have g0 : f_X4_get (pk : Int) (26 + (3 * (k : Int))) 1 U = some x.1 := by rw [pk_get1 (q := 26 + 3 * k) pkU (by omega) (by omega), xv]
      have g1 : f_X4_get (pk : Int) ((26 + (3 * (k : Int))) + 1) 1 U = some x.2.1 := by rw [pk_get1 (q := 26 + 3 * k + 1) pkU (by omega) (by omega), xv]
      have i16 : rI U Q 16 = (f : Int) := by rw [hE.rI (by unfold A9; omega)]; exact h16
      have head : b_X31_checked_53 R (Q : Int) x1 (pk : Int) (e : Int) (n : Int) (k : Int) U = (f_X31_place (Q : Int) x.1 x.2.1 (f : Int) (e : Int) U).bind fun v4 => if w32 v4 = w32 (-1) then j_X31_checked_142 R (Q : Int) x1 (pk : Int) (e : Int) (n : Int) (k : Int) U else (gfr 31 12 (Q : Int) U).bind fun v5 => (laz v5 v4 U).bind fun v6 => if w32 v6 = 0 then (gfr 31 12 (Q : Int) U).bind fun v7 => (saz v7 v4 1 U).bind fun M1 => (gfr 31 11 (Q : Int) M1).bind fun v8 => (lai v8 v4 M1).bind fun v9 => ck 4 (pk : Int) M1 <| (f_X4_get (pk : Int) ((26 + (3 * (k : Int))) + 2) 1 M1).bind fun v10 => (sai v8 v4 (v9 + v10) M1).bind fun M2 => j_X31_checked_142 R (Q : Int) x1 (pk : Int) (e : Int) (n : Int) (k : Int) M2 else j_X31_checked_142 R (Q : Int) x1 (pk : Int) (e : Int) (n : Int) (k : Int) U := by
        unfold b_X31_checked_53
        rw [w32_nn (by omega), w32_nn (by omega), if_pos (by omega), ck_e pkU.1.1, g0, Option.bind_some, ck_e pkU.1.1, g1, Option.bind_some, gfi_e k31U, i16, Option.bind_some, ck_e k31U]
      have nx : ∀ U2, j_X31_checked_142 R (Q : Int) x1 (pk : Int) (e : Int) (n : Int) (k : Int) U2 = some (.inl (((k + 1 : Nat) : Int), U2)) := fun U2 => rfl
      have keep : (∀ i, f ≤ i → i < e → (od x ≠ od (L.getD i it0) ∨ chkB (tl.take k) (L.getD i it0) = true)) → AsL U Q (tcL f (tl.take (k + 1)) L) ∧ ∀ i, f ≤ i → i < e → rI U (Q + 9) i = b2i (chkB (tl.take (k + 1)) (L.getD i it0)) := fun z => by
        have eq : tcL f (tl.take (k + 1)) L = tcL f (tl.take k) L := by
          refine List.ext_getElem (by rw [tcL_len, tcL_len]) (fun i i1 i2 => ?_)
          rw [tcL_len] at i1
          rw [← gd_get (d := it0), ← gd_get (d := it0), tcL_get i1, tcL_get i1]
          by_cases c : f ≤ i ∧ i < f + 30
          · rw [if_pos c, if_pos c]; exact (same i i1 (z i c.1 (by omega))).2
          · rw [if_neg c, if_neg c]
        refine ⟨by rw [eq]; exact hU, fun i z1 z2 => ?_⟩
        rw [h2 i z1 z2, (same i (by omega) (z i z1 z2)).1]
      rcases c_lplace (x := x) (f := f) (e := e) SU hU okk (by omega) ⟨xo.1, xo.2.1⟩ (by omega) with ⟨i, i1, i2, i3, i4⟩ | ⟨i3, i4⟩
      · have iL : i < L.length := by omega
        rw [odk i iL] at i4
        have fl : rI U (Q + 9) i = b2i (chkB (tl.take k) (L.getD i it0)) := h2 i i1 i2
        rw [i3, Option.bind_some, w32_nn (by omega), if_neg (show ¬ (i : Int) = w32 (-1) from by show ¬ (i : Int) = -1; omega), gfr_e k31U, SU.2.1.2.2.2.2.2.2.2.2.1, Option.bind_some, laz_e (k := 754) (l := 200) (j := i) SU.2.2.1.2.2.2.2.2.2.2.2 (by decide) (by decide) (w32_nn (by omega)) (by omega), fl, Option.bind_some, w32_b2i] at head
        have uniq : ∀ i', i' < L.length → i' ≠ i → od x ≠ od (L.getD i' it0) := fun i' h' hne z => by
          rw [← i4] at z
          have nd := hk.2.1
          have := (List.getElem_inj (xs := L.map od) (h₀ := by rw [List.length_map]; exact iL) (h₁ := by rw [List.length_map]; exact h') nd).mp (by rw [List.getElem_map, List.getElem_map, ← gd_get (d := it0) iL, ← gd_get (d := it0) h']; exact z)
          exact hne this.symm
        cases hb2 : chkB (tl.take k) (L.getD i it0) with
        | true =>
          rw [hb2, if_neg (by decide), nx] at head
          obtain ⟨q1, q2⟩ := keep (fun i' z1 z2 => by
            by_cases c : i' = i
            · rw [c]; exact Or.inr hb2
            · exact Or.inl (uniq i' (by omega) c))
          exact stepc U head hE q1 h1 q2
        | false =>
          obtain ⟨y, hy⟩ : ∃ y, y = (tcL f (tl.take k) L).getD i it0 := ⟨_, rfl⟩
          have yL : y = L.getD i it0 := by rw [hy, tcL_get iL, if_pos ⟨i1, by omega⟩, chk_no hb2]
          obtain ⟨gg1, gg2, gg3⟩ := hU.2.2 i (by rw [lenk]; exact iL)
          rw [← hy] at gg1 gg2 gg3
          have y8 := hs y (by rw [yL]; exact getD_mem iL)
          have y0 := (okL_rg hk iL).2.2.1
          rw [← yL] at y0
          have p9 : PkC (sI U (Q + 9) i 1) pk l := pkU.ex (Ex.st (A := A9 Q) (Or.inr rfl)) (fun z => hpq.1 (A9_AQ z)) (fun z => hpq.2 (A9_AQ z))
          have g2 : f_X4_get (pk : Int) ((26 + (3 * (k : Int))) + 2) 1 (sI U (Q + 9) i 1) = some x.2.2 := by rw [pk_get1 (q := 26 + 3 * k + 2) p9 (by omega) (by omega), xv]
          rw [hb2, if_pos (by decide), Option.bind_some, saz_e (k := 754) (l := 200) (j := i) SU.2.2.1.2.2.2.2.2.2.2.2 (by decide) (by decide) (w32_nn (by omega)) (by omega) (Or.inr rfl), Option.bind_some, gfr_e (by rw [kd_sI]; exact k31U), rR_sI, SU.2.1.2.2.2.2.2.2.2.1, Option.bind_some, lai_e (k := 736) (l := 200) (j := i) (show kd (sI U (Q + 9) i 1) (Q + 8) = (736, 200) from SU.2.2.1.2.2.2.2.2.2.2.1) (by decide) (by decide) (w32_nn (by omega)) (by omega), rI_ne (by omega), gg3, Option.bind_some, ck_e (by rw [kd_sI]; exact pkU.1.1), g2, Option.bind_some, sai_e (k := 736) (l := 200) (j := i) (show kd (sI U (Q + 9) i 1) (Q + 8) = (736, 200) from SU.2.2.1.2.2.2.2.2.2.2.1) (by decide) (by decide) (w32_nn (by omega)) (by omega), Option.bind_some, nx] at head
          refine stepc _ head (hE.trans ((Ex.st (A := A9 Q) (Or.inr rfl)).trans (Ex.st (A := A9 Q) (Or.inl rfl)))) ?_ (fun i' z => ?_) (fun i' z1 z2 => ?_)
          · have a8 := AsL_8 (i := i) (v := y.2.2 + x.2.2) (AsL_9 (i := i) (v := 1) hU) (by rw [lenk]; exact iL) (w32s (by omega))
            have eq : (tcL f (tl.take k) L).set i (((tcL f (tl.take k) L).getD i it0).1, ((tcL f (tl.take k) L).getD i it0).2.1, y.2.2 + x.2.2) = tcL f (tl.take (k + 1)) L := by
              refine List.ext_getElem (by rw [List.length_set, tcL_len, tcL_len]) (fun i' j1 j2 => ?_)
              rw [tcL_len] at j2
              rw [← gd_get (d := it0) (S := tcL f (tl.take (k + 1)) L), tcL_get j2, List.getElem_set]
              by_cases c : i = i'
              · rw [if_pos c, ← c, if_pos ⟨i1, by omega⟩, (cs i iL).2, hb2, if_neg (by decide), if_pos i4.symm, ← hy, yL]
              · rw [if_neg c, ← gd_get (d := it0), tcL_get j2]
                by_cases c2 : f ≤ i' ∧ i' < f + 30
                · rw [if_pos c2, if_pos c2]; exact ((same i' j2 (Or.inl (uniq i' j2 (fun z => c z.symm)))).2).symm
                · rw [if_neg c2, if_neg c2]
            rw [eq] at a8
            exact a8
          · rw [rI_ne (by omega), rI_ne (by omega)]; exact h1 i' z
          · rw [rI_ne (by omega)]
            by_cases c : i' = i
            · rw [c, rI_eq rfl, (cs i iL).1, hb2, decide_eq_true i4.symm]; rfl
            · rw [rI_ne (fun z => c z.2), h2 i' z1 z2, (same i' (by omega) (Or.inl (uniq i' (by omega) c))).1]
      · rw [i3, Option.bind_some, if_pos rfl, nx] at head
        obtain ⟨q1, q2⟩ := keep (fun i' z1 z2 => Or.inl (fun z => i4 i' z1 z2 (by rw [odk i' (by omega)]; exact z.symm)))
        exact stepc U head hE q1 h1 q2
  have e9 : Ex (A9 Q) M U0 := c2.mono (fun z hz => Or.inr hz)
  have t0 : tcL f (tl.take 0) L = L := by
    refine List.ext_getElem tcL_len (fun i i1 i2 => ?_)
    rw [← gd_get (d := it0), ← gd_get (d := it0), tcL_get i2]
    by_cases c : f ≤ i ∧ i < f + 30
    · rw [if_pos c]; exact chk_0.2
    · rw [if_neg c]
  obtain ⟨U', r1, r2, r3, r4, r5⟩ := told n 0 FU U0 (by omega) (by unfold FU; omega) e9 (by rw [t0]; exact L0) c3 (fun i z1 z2 => by rw [c4 i z1 z2]; rfl)
  have lF : (tcF f tl L F).length = e := by
    unfold tcF
    rw [List.length_append, List.length_map, List.length_take, List.length_drop, hF]; omega
  refine ⟨U', ?_, r3, fun i hi => ?_, lF, r2⟩
  · unfold f_X31_checked l_X31_checked_21
    rw [gfi_e k31, h16, Option.bind_some, gfi_e k31, hL.1, Option.bind_some, Option.bind_some, jm, c1]
    unfold j_X31_checked_41 l_X31_checked_53
    have pk0 : PkC U0 pk l := hq.ex e9 (fun z => hpq.1 (A9_AQ z)) (fun z => hpq.2 (A9_AQ z))
    rw [ck_e pk0.1.1, pk_get1 (q := 25) (i := 25) pk0 rfl (by omega), hn, Option.bind_some]
    exact r1
  · rw [lF] at hi
    unfold tcF
    by_cases c : i < f
    · rw [r4 i c, hF2 i (by omega), List.getD_eq_getElem?_getD, List.getD_eq_getElem?_getD, List.getElem?_append_left (by omega)]
    · rw [r5 i (by omega) hi, gd_get (show i < L.length by omega), List.getD_eq_getElem?_getD, List.getElem?_append_right (by omega), hF, List.getElem?_map, List.getElem?_take, if_pos (by omega), List.getElem?_drop, show f + (i - f) = i from by omega, List.getElem?_eq_getElem (show i < L.length by omega)]
      rfl
end CCHK
