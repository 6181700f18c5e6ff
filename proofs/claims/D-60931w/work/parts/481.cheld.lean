/-! holders of a query's terms, by the class -/
section CARR
variable {M : MM} {Q : Nat} {c : Nat → Int}
theorem c_arrIns {i : Nat} (hS : AsS M Q) (hi : i < 3) (hc : ∀ x, x ≤ i → rI M (Q + 3) x = c x) : ∀ (j fu : Nat) (U : MM), j ≤ i → j < fu → Ex (fun z => z = Q + 5) M U → (∀ x, x < j → rI U (Q + 5) x = (((arrO c i).getD x 0 : Nat) : Int)) → (∀ x, j ≤ x → x < i → rI U (Q + 5) (x + 1) = (((arrO c i).getD x 0 : Nat) : Int)) → ∃ U', lpN (fun s : Int × MM => b_X31_arrange_12 (Q : Int) (i : Int) s.1 s.2) fu ((j : Int), U) = some (.inl (((i + 1 : Nat) : Int), U')) ∧ (∀ x, x ≤ i → rI U' (Q + 5) x = ((((arrO c i).take (bk (fun y => decide (c i < c y)) 0 (arrO c i) j) ++ i :: (arrO c i).drop (bk (fun y => decide (c i < c y)) 0 (arrO c i) j)).getD x 0 : Nat) : Int)) ∧ Ex (fun z => z = Q + 5) M U' := by
  intro j
  have al := arr_len c i
  have fin : ∀ (j : Nat) (U : MM), j ≤ i → Ex (fun z => z = Q + 5) M U → (∀ x, x < j → rI U (Q + 5) x = (((arrO c i).getD x 0 : Nat) : Int)) → (∀ x, j ≤ x → x < i → rI U (Q + 5) (x + 1) = (((arrO c i).getD x 0 : Nat) : Int)) → ∃ U', j_X31_arrange_58 (Q : Int) (i : Int) (j : Int) U = some (.inl (((i + 1 : Nat) : Int), U')) ∧ (∀ x, x ≤ i → rI U' (Q + 5) x = ((((arrO c i).take j ++ i :: (arrO c i).drop j).getD x 0 : Nat) : Int)) ∧ Ex (fun z => z = Q + 5) M U' := by
    intro j U hj hE u1 u2
    have S1 : AsS U Q := hS.ex hE
    refine ⟨sI U (Q + 5) j (i : Int), ?_, fun x hx => ?_, hE.trans (Ex.st (A := fun z => z = Q + 5) rfl)⟩
    · unfold j_X31_arrange_58
      rw [gfr_e (by rw [S1.1]), S1.2.1.2.2.2.2.1, Option.bind_some, sai_e (k := 688) (l := 3) (j := j) S1.2.2.1.2.2.2.2.1 (by decide) (by decide) (w32_nn (by omega)) (by omega), Option.bind_some]
      rfl
    · rw [ins_get (by omega), rI_sI]
      by_cases c1 : x < j
      · rw [if_neg (by omega), if_pos c1]; exact u1 x c1
      · rw [if_neg c1]
        by_cases c2 : x = j
        · rw [if_pos ⟨rfl, c2⟩, if_pos c2, w32_nn (by omega)]
        · rw [if_neg (by omega), if_neg c2]
          have := u2 (x - 1) (by omega) (by omega)
          rw [show x - 1 + 1 = x by omega] at this
          exact this
  induction j with
  | zero =>
    intro fu U hj hfu hE u1 u2
    obtain ⟨U', e1, e2, e3⟩ := fin 0 U hj hE u1 u2
    refine ⟨U', ?_, e2, e3⟩
    refine Eq.trans (lpN_end (b := fun s : Int × MM => b_X31_arrange_12 (Q : Int) (i : Int) s.1 s.2) (x := j_X31_arrange_58 (Q : Int) (i : Int) ((0 : Nat) : Int) U) (by omega) ?_) e1
    dsimp only
    unfold b_X31_arrange_12
    rw [if_neg (by decide)]
  | succ j ih =>
    intro fu U hj hfu hE u1 u2
    obtain ⟨f, rfl⟩ : ∃ f, fu = f + 1 := ⟨fu - 1, by omega⟩
    have S1 : AsS U Q := hS.ex hE
    have k31 : (kd U Q).1 = 31 := by rw [S1.1]
    obtain ⟨y, hy⟩ : ∃ y, y = (arrO c i).getD j 0 := ⟨_, rfl⟩
    have yi : y < i := by rw [hy]; exact arr_lt c i _ (getD_mem (by omega))
    have r5 : rI U (Q + 5) j = (y : Int) := by rw [hy]; exact u1 j (by omega)
    have c3 : ∀ x, x ≤ i → rI U (Q + 3) x = c x := fun x hx => by rw [hE.rI (by omega)]; exact hc x hx
    have r2 : w32 (c i) = c i := by rw [← hc i (Nat.le_refl _)]; exact w32_rI
    have r3 : w32 (c y) = c y := by rw [← hc y (by omega)]; exact w32_rI
    have run : b_X31_arrange_12 (Q : Int) (i : Int) ((j + 1 : Nat) : Int) U = if c i < c y then some (.inl ((j : Int), sI U (Q + 5) (j + 1) (y : Int))) else xit (j_X31_arrange_58 (Q : Int) (i : Int) ((j + 1 : Nat) : Int) U) := by
      unfold b_X31_arrange_12
      rw [w32_nn (by omega), if_pos (by omega), gfr_e k31, S1.2.1.2.2.1, Option.bind_some, gfr_e k31, S1.2.1.2.2.2.2.1, Option.bind_some, show ((j + 1 : Nat) : Int) - 1 = (j : Int) by omega, lai_e (k := 688) (l := 3) (j := j) S1.2.2.1.2.2.2.2.1 (by decide) (by decide) (w32_nn (by omega)) (by omega), r5, Option.bind_some, lai_e (k := 656) (l := 3) (j := y) S1.2.2.1.2.2.1 (by decide) (by decide) (w32_nn (by omega)) (by omega), c3 y (by omega), Option.bind_some, Option.bind_some, lai_e (k := 656) (l := 3) (j := i) S1.2.2.1.2.2.1 (by decide) (by decide) (w32_nn (by omega)) (by omega), c3 i (Nat.le_refl _), Option.bind_some, r2, r3]
      by_cases q : c i < c y
      · rw [if_pos q, if_pos q, Option.bind_some, Option.bind_some, lai_e (k := 688) (l := 3) (j := j) S1.2.2.1.2.2.2.2.1 (by decide) (by decide) (w32_nn (by omega)) (by omega), r5, Option.bind_some, sai_e (k := 688) (l := 3) (j := j + 1) S1.2.2.1.2.2.2.2.1 (by decide) (by decide) (w32_nn (by omega)) (by omega), Option.bind_some, show ((j + 1 : Nat) : Int) + (-1) = (j : Int) by omega]
        rfl
      · rw [if_neg q, if_neg q]
    have bks : bk (fun y => decide (c i < c y)) 0 (arrO c i) (j + 1) = if c i < c y then bk (fun y => decide (c i < c y)) 0 (arrO c i) j else j + 1 := by
      rw [bk, ← hy]
      by_cases q : c i < c y
      · rw [if_pos (by simpa using q), if_pos q]
      · rw [if_neg (by simpa using q), if_neg q]
    rw [bks]
    by_cases q : c i < c y
    · rw [if_pos q] at run ⊢
      obtain ⟨U', e1, e2, e3⟩ := ih f (sI U (Q + 5) (j + 1) (y : Int)) (by omega) (by omega) (hE.trans (Ex.st (A := fun z => z = Q + 5) rfl)) (fun x hx => by rw [rI_ne (by omega)]; exact u1 x (by omega)) (fun x x1 x2 => by
        by_cases e : x = j
        · rw [e, rI_eq rfl, w32_nn (by omega), hy]
        · rw [rI_ne (by omega)]; exact u2 x (by omega) x2)
      refine ⟨U', ?_, e2, e3⟩
      rw [lpN_cnt (b := fun s : Int × MM => b_X31_arrange_12 (Q : Int) (i : Int) s.1 s.2) (s := (((j + 1 : Nat) : Int), U)) run]
      exact e1
    · rw [if_neg q] at run ⊢
      obtain ⟨U', e1, e2, e3⟩ := fin (j + 1) U hj hE u1 u2
      exact ⟨U', Eq.trans (lpN_end (b := fun s : Int × MM => b_X31_arrange_12 (Q : Int) (i : Int) s.1 s.2) (s := (((j + 1 : Nat) : Int), U)) (by omega) run) e1, e2, e3⟩
/-- terms by their counts -/
theorem c_arrange {n : Nat} (hS : AsS M Q) (hn : n ≤ 3) (h5 : rI M Q 5 = (n : Int)) (hc : ∀ x, x < n → rI M (Q + 3) x = c x) : ∃ U, f_X31_arrange (Q : Int) M = some U ∧ (∀ x, x < n → rI U (Q + 5) x = (((arrO c n).getD x 0 : Nat) : Int)) ∧ Ex (fun z => z = Q + 5) M U := by
  have loop : ∀ (d i fu : Nat) (U : MM), d + i = n → d < fu → Ex (fun z => z = Q + 5) M U → (∀ x, x < i → rI U (Q + 5) x = (((arrO c i).getD x 0 : Nat) : Int)) → ∃ U', lpN (fun s : Int × MM => b_X31_arrange_2 (Q : Int) s.1 s.2) fu ((i : Int), U) = some U' ∧ (∀ x, x < n → rI U' (Q + 5) x = (((arrO c n).getD x 0 : Nat) : Int)) ∧ Ex (fun z => z = Q + 5) M U' := by
    intro d
    induction d with
    | zero =>
      intro i fu U hi hfu hE h1
      have : i = n := by omega
      subst this
      refine ⟨U, lpN_end (by omega) ?_, h1, hE⟩
      show b_X31_arrange_2 (Q : Int) (i : Int) U = _
      unfold b_X31_arrange_2
      rw [gfi_e (by rw [hE.kd, hS.1]), hE.rI (by omega), h5, Option.bind_some, if_neg (by omega)]
    | succ d ih =>
      intro i fu U hi hfu hE h1
      obtain ⟨fu', rfl⟩ : ∃ f, fu = f + 1 := ⟨fu - 1, by omega⟩
      obtain ⟨U1, e1, e2, e3⟩ := c_arrIns (M := U) (c := c) (i := i) (hS.ex hE) (by omega) (fun x hx => by rw [hE.rI (by omega)]; exact hc x (by omega)) i FU U (Nat.le_refl _) (by unfold FU; omega) .refl h1 (fun x x1 x2 => by omega)
      have ea : (arrO c i).take (bk (fun y => decide (c i < c y)) 0 (arrO c i) i) ++ i :: (arrO c i).drop (bk (fun y => decide (c i < c y)) 0 (arrO c i) i) = arrO c (i + 1) := by
        show _ = (arrO c i).take (bk (fun y => decide (c i < c y)) 0 (arrO c i) (arrO c i).length) ++ i :: (arrO c i).drop (bk (fun y => decide (c i < c y)) 0 (arrO c i) (arrO c i).length)
        rw [arr_len]
      rw [ea] at e2
      obtain ⟨U', r1, r2, r3⟩ := ih (i + 1) fu' U1 (by omega) (by omega) (hE.trans e3) (fun x hx => e2 x (by omega))
      refine ⟨U', ?_, r2, r3⟩
      rw [lpN_cnt (b := fun s : Int × MM => b_X31_arrange_2 (Q : Int) s.1 s.2) (s := ((i : Int), U)) (s' := (((i + 1 : Nat) : Int), U1))]
      · exact r1
      · show b_X31_arrange_2 (Q : Int) (i : Int) U = _
        unfold b_X31_arrange_2 l_X31_arrange_12
        rw [gfi_e (by rw [hE.kd, hS.1]), hE.rI (by omega), h5, Option.bind_some, w32_nn (by omega), w32_nn (by omega), if_pos (by omega)]
        exact e1
  exact loop n 0 FU M (by omega) (by unfold FU; omega) .refl (fun x hx => by omega)
end CARR
section CHELD
variable {M M1 : MM} {m al N p t nb Q i0 : Nat} {pa tk : Nat → Nat} {own : Nat → Ky} {sd ps sn pu rf : Nat → Int} {tm : Int} {lf : Nat → Nat} {b0 : Nat × Nat} {h : Gh} {eg : EG} {pb as : Nat → Option Nat} {mn : Nat → Int} {fa : Nat → Nat} {Y : Ys} {key : Ky}
/-- the first one of the front that has postings -/
theorem c_isHeld (hC : CB M m al N pa own sd ps sn pu rf tm lf b0 eg tk pb as nb mn fa Y h) (hS : AsS M Q) (hm : 1 ≤ m ∧ m ≤ 20) (hok : okW N own tm (yw Y)) (hE : okEs (yl Y t).1 (yl Y t).2.2.1) (hh : hdW N Y t) (ht : t < 12 + N) (h6 : rI M Q 6 = (i0 : Int)) (hi : i0 < 3) (hkey : ky (kC M (Q + 19 + 4 * i0)) = key) :
    match hldE (own (yp Y t)) key (wS (yw Y) (yp Y t)) (frontE m (yl Y t).2.2.1) with
    | none => f_X31_isHeld (Q : Int) ((wa pa t : Nat) : Int) M = some (0, M)
    | some x => ∃ M', f_X31_isHeld (Q : Int) ((wa pa t : Nat) : Int) M = some (1, M') ∧ Ex (fun z => z = Q + 3 ∨ z = Q + 4 ∨ z = Q + 22 + 4 * i0) M M' ∧ ky (kC M' (Q + 21 + 4 * i0)) = eKey x ∧ rI M' (Q + 4) i0 = eAdr x ∧ rI M' (Q + 3) i0 = hcE (own (yp Y t)) key (wS (yw Y) (yp Y t)) x ∧ (∀ i, i ≠ i0 → rI M' (Q + 4) i = rI M (Q + 4) i ∧ rI M' (Q + 3) i = rI M (Q + 3) i) := by
  obtain ⟨hP, hL, hW, hT⟩ := id hC
  obtain ⟨hu, u1, u2, u3⟩ := id hL
  obtain ⟨w1, w2, _⟩ := u2 t ht
  have hgo : yv Y 226 t ≠ 0 := by rw [hh.1]; decide
  obtain ⟨g1, _⟩ := (hW t ht).2.2.2 hgo
  have pN := yp_lt hh
  obtain ⟨p, hp⟩ : ∃ p, p = yp Y t := ⟨_, rfl⟩
  have g1 : rR M (wa pa t) 2 = ((pa p : Nat) : Int) := by rw [hp]; exact g1
  rw [← hp] at pN ⊢
  obtain ⟨a, ha⟩ : ∃ a, a = wa pa t := ⟨_, rfl⟩
  rw [← ha] at w1 w2 g1 ⊢
  obtain ⟨F, hF⟩ : ∃ F, F = frontE m (yl Y t).2.2.1 := ⟨_, rfl⟩
  have F20 : F.length ≤ 20 := by rw [hF]; exact front_len _ hm.2
  rw [← hF]
  have k15 : (kd M (a + 5)).1 = 15 := by rw [w2.1.1]
  have k31 : (kd M Q).1 = 31 := by rw [hS.1]
  have pe := hP.2.2.2.2.1.2.2 p pN
  have k17 : (kd M (pa p)).1 = 17 := by rw [pe.1.1]
  have kp : isK M (pa p + 1) := pe.1.2.2.2.2.1
  obtain ⟨e0, e1, e2, e3, e4, e5⟩ := hS.2.2.2.2.2 i0 hi
  have stc := hP.2.2.2.1.2.2.2.1 p pN
  obtain ⟨n0, _, cnt, _⟩ := c_count stc e2
  rw [hkey] at cnt
  have k18 : (kd M (pa p + 3)).1 = 18 := stc.1.1
  have l200 : (choS key (wS (yw Y) p)).length ≤ 200 := Nat.le_trans (List.length_filter_le _ _) stc.2.2.2.2.2.2.2.1.1
  -- one of the front
  have body : ∀ j, j < F.length → ∃ (dd : Nat) (x : Ent), F[j]? = some x ∧ isEn M dd ∧ enC M dd = x ∧ okE x ∧ b_X31_isHeld_2 (Q : Int) (a : Int) (j : Int) M = if 0 < hcE (own p) key (wS (yw Y) p) x then xit (j_X31_isHeld_75 (Q : Int) (dd : Int) (hcE (own p) key (wS (yw Y) p) x) M) else some (.inl ((j + 1 : Nat) : Int)) := fun j hj => by
    rcases c_front (i := j) w2 hm (by omega) with ⟨i, j1, j2, j3⟩ | ⟨j2, j3⟩
    · rw [← hF] at j3
      obtain ⟨x, hx⟩ : ∃ x, x = (yl Y t).2.2.1.getD i ent0 := ⟨_, rfl⟩
      rw [← hx] at j3
      have hen := (w2.2.2.2.2.2.1 i (by have := w2.2.2.2.1; omega)).2
      have hde := w2.2.2.2.2.2.2.2.2.2 i j1
      rw [← hx] at hde
      have hoe : okE x := hE.2.2 x (by rw [hx]; exact getD_mem j1)
      obtain ⟨dd, hdd⟩ : ∃ dd, dd = (eg t).2 i := ⟨_, rfl⟩
      rw [← hdd] at j2 hen hde
      refine ⟨dd, x, j3, hen, hde, hoe, ?_⟩
      have is : f_X3_is ((dd + 1 : Nat) : Int) ((pa p + 1 : Nat) : Int) M = some (b2i (decide (eKey x = own p))) := by
        rw [e_X3_is hen.2.2.2 kp, ← kc_ky, show ky (kC M (dd + 1)) = eKey x from by rw [← hde]; rfl, pe.2.2.1]
        have := kc_160 hoe.1 (hok.2.2.2 p pN).1
        by_cases c : eKey x = own p
        · rw [if_pos (this.mpr c), decide_eq_true c]; rfl
        · rw [if_neg (fun z => c (this.mp z)), decide_eq_false c]; rfl
      unfold b_X31_isHeld_2 j_X31_isHeld_65
      rw [gfr_e w1.1, w1.2.1.2.1, Option.bind_some, ck_e k15, j2, Option.bind_some, if_neg (by omega), Option.bind_some, ck_e k15, j2, Option.bind_some, gfr_e (by rw [hen.1]), hen.2.1, Option.bind_some, gfr_e w1.1, g1, Option.bind_some, gfr_e k17, pe.1.2.2.1.2.1, Option.bind_some, ck_e hen.2.2.2.1, is, Option.bind_some, w32_b2i]
      by_cases c : eKey x = own p
      · have hv : hcE (own p) key (wS (yw Y) p) x = (((choS key (wS (yw Y) p)).length : Nat) : Int) := by unfold hcE; rw [if_pos c]
        rw [decide_eq_true c, if_neg (by decide), Option.bind_some, gfr_e k17, pe.1.2.2.1.2.2.2.1, Option.bind_some, gfr_e k31, hS.2.1.1, Option.bind_some, gfi_e k31, h6, Option.bind_some, lar_n hS.2.2.1.1 (by decide) hi (by decide), e0, Option.bind_some, ck_e k18, cnt, Option.bind_some, hv, w32_nn (by omega)]
        by_cases z : (choS key (wS (yw Y) p)).length = 0
        · rw [if_pos (by omega), if_neg (by omega)]; rfl
        · rw [if_neg (by omega), if_pos (by omega)]
      · have hv : hcE (own p) key (wS (yw Y) p) x = eCnt x := by unfold hcE; rw [if_neg c]
        have r3 : rI M dd 3 = eCnt x := by rw [← hde]; rfl
        have oc := hoe.2.2.2
        rw [decide_eq_false c, if_pos (by decide), gfi_e (by rw [hen.1]), r3, Option.bind_some, hv, w32_id (by omega) (by omega)]
        by_cases z : eCnt x = 0
        · rw [if_pos z, if_neg (by omega)]; rfl
        · rw [if_neg z, if_pos (by omega)]
    · rw [← hF, List.getElem?_eq_getElem hj] at j3; cases j3
  have loop : ∀ (d j fu : Nat), d + j = F.length → d < fu → match hldE (own p) key (wS (yw Y) p) (F.drop j) with | none => lpN (fun s : Int => b_X31_isHeld_2 (Q : Int) (a : Int) s M) fu (j : Int) = some (0, M) | some x => ∃ dd : Nat, lpN (fun s : Int => b_X31_isHeld_2 (Q : Int) (a : Int) s M) fu (j : Int) = j_X31_isHeld_75 (Q : Int) (dd : Int) (hcE (own p) key (wS (yw Y) p) x) M ∧ isEn M dd ∧ enC M dd = x ∧ okE x := by
    intro d
    induction d with
    | zero =>
      intro j fu hj hfu
      have : j = F.length := by omega
      subst this
      rw [List.drop_length]
      show lpN _ fu _ = _
      refine lpN_end (by omega) ?_
      show b_X31_isHeld_2 (Q : Int) (a : Int) ((F.length : Nat) : Int) M = _
      unfold b_X31_isHeld_2
      rw [gfr_e w1.1, w1.2.1.2.1, Option.bind_some, ck_e k15]
      rcases c_front w2 hm F20 with ⟨j, j1, j2, j3⟩ | ⟨j2, j3⟩
      · rw [← hF, List.getElem?_eq_none (Nat.le_refl _)] at j3; cases j3
      · rw [j2, Option.bind_some, if_pos rfl]
    | succ d ih =>
      intro j fu hj hfu
      obtain ⟨fu', rfl⟩ : ∃ f, fu = f + 1 := ⟨fu - 1, by omega⟩
      obtain ⟨dd, x, b1, b2, b3, b4, b5⟩ := body j (by omega)
      have dr : F.drop j = x :: F.drop (j + 1) := by
        rw [List.drop_eq_getElem_cons (by omega)]
        rw [List.getElem?_eq_getElem (by omega)] at b1
        rw [Option.some.inj b1]
      rw [dr]
      unfold hldE
      by_cases c : 0 < hcE (own p) key (wS (yw Y) p) x
      · rw [List.find?_cons_of_pos (by simpa using c)]
        rw [if_pos c] at b5
        exact ⟨dd, lpN_end (by omega) b5, b2, b3, b4⟩
      · rw [List.find?_cons_of_neg (by simpa using c)]
        rw [if_neg c] at b5
        rw [lpN_cnt (b := fun s : Int => b_X31_isHeld_2 (Q : Int) (a : Int) s M) (s := (j : Int)) b5]
        exact ih (j + 1) fu' (by omega) (by omega)
  have main := loop F.length 0 FU (by omega) (by unfold FU; omega)
  rw [List.drop_zero] at main
  unfold f_X31_isHeld l_X31_isHeld_2
  cases hh0 : hldE (own p) key (wS (yw Y) p) F with
  | none => rw [hh0] at main; exact main
  | some x =>
    rw [hh0] at main
    obtain ⟨dd, q1, q2, q3, q4⟩ := main
    dsimp only
    rw [show lpN (fun s : Int => b_X31_isHeld_2 (Q : Int) (a : Int) s M) FU 0 = _ from q1]
    obtain ⟨M1, s1, s2, s3⟩ := e_X3_set (a := Q + 21 + 4 * i0) (b := dd + 1) e5 q2.2.2.2
    have S1 : AsS M1 Q := hS.ex s3
    have k311 : (kd M1 Q).1 = 31 := by rw [S1.1]
    have m14 := AsS_mo hS
    have d6 := (En_mo q2).1
    have dn : ∀ j, j ≤ 30 → dd ≠ Q + j := fun j hj e => by rw [e, m14 j hj] at d6; exact absurd d6 (by decide)
    obtain ⟨cv, hcv⟩ : ∃ cv, cv = hcE (own p) key (wS (yw Y) p) x := ⟨_, rfl⟩
    rw [← hcv]
    have cvr : 0 ≤ cv ∧ cv ≤ 65535 := by
      rw [hcv]
      unfold hcE
      by_cases c : eKey x = own p
      · rw [if_pos c]; omega
      · rw [if_neg c]; exact q4.2.2.2
    have i6 : rI M1 Q 6 = (i0 : Int) := by rw [s3.rI (by omega)]; exact h6
    have r1 : rI M1 dd 1 = eAdr x := by rw [s3.rI (by have := dn (22 + 4 * i0) (by omega); omega), ← q3]; rfl
    have oa := q4.2.1
    refine ⟨sI (sI M1 (Q + 4) i0 (eAdr x)) (Q + 3) i0 cv, ?_, ?_, ?_, ?_, ?_, fun i z => ?_⟩
    · unfold j_X31_isHeld_75
      rw [gfr_e k31, hS.2.1.2.1, Option.bind_some, gfi_e k31, h6, Option.bind_some, lar_n hS.2.2.1.2.1 (by decide) hi (by decide), e3, Option.bind_some, gfr_e (by rw [q2.1]), q2.2.1, Option.bind_some, ck_e e5.1, s1, Option.bind_some, gfr_e k311, S1.2.1.2.2.2.1, Option.bind_some, gfi_e k311, i6, Option.bind_some, gfi_e (by rw [s3.kd, q2.1]), r1, Option.bind_some, sai_e (k := 672) (l := 3) (j := i0) S1.2.2.1.2.2.2.1 (by decide) (by decide) (w32_nn (by omega)) hi, Option.bind_some, gfr_e (by rw [kd_sI]; exact k311), rR_sI, S1.2.1.2.2.1, Option.bind_some, gfi_e (by rw [kd_sI]; exact k311), rI_ne (by omega), i6, Option.bind_some, sai_e (k := 656) (l := 3) (j := i0) (show kd (sI M1 (Q + 4) i0 (eAdr x)) (Q + 3) = (656, 3) from S1.2.2.1.2.2.1) (by decide) (by decide) (w32_nn (by omega)) hi, Option.bind_some]
    · exact (s3.mono (fun z hz => Or.inr (Or.inr (by omega)))).trans ((Ex.st (A := fun z => z = Q + 3 ∨ z = Q + 4 ∨ z = Q + 22 + 4 * i0) (Or.inr (Or.inl rfl))).trans (Ex.st (A := fun z => z = Q + 3 ∨ z = Q + 4 ∨ z = Q + 22 + 4 * i0) (Or.inl rfl)))
    · rw [← show ky (kC M (dd + 1)) = eKey x from by rw [← q3]; rfl]
      have ek : ∀ j, j < 5 → kC (sI (sI M1 (Q + 4) i0 (eAdr x)) (Q + 3) i0 cv) (Q + 21 + 4 * i0) j = kC M (dd + 1) j := fun j hj => by
        show rI (sI (sI M1 (Q + 4) i0 (eAdr x)) (Q + 3) i0 cv) (Q + 21 + 4 * i0 + 1) j = _
        rw [rI_ne (by omega), rI_ne (by omega)]
        exact s2 j hj
      exact ky_eq.mpr ⟨ek 0 (by omega), ek 1 (by omega), ek 2 (by omega), ek 3 (by omega), ek 4 (by omega)⟩
    · rw [rI_ne (by omega), rI_eq rfl, w32s (by omega)]
    · rw [rI_eq rfl, w32_id (by omega) (by omega)]
    · rw [rI_ne (by omega), rI_ne (fun y => z y.2), s3.rI (by omega), rI_ne (fun y => z y.2), rI_ne (by omega), s3.rI (by omega)]
      exact ⟨rfl, rfl⟩
end CHELD
