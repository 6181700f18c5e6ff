/-! behind the lookup of a publishing -/
section CLK30
variable {M M1 M2 : MM} {m al N p t nb n P k oth : Nat} {pa tk : Nat → Nat} {own : Nat → Ky} {sd ps sn pu rf : Nat → Int} {tm how : Int} {lf : Nat → Nat} {b0 : Nat × Nat} {h : Gh} {eg : EG} {pb as : Nat → Option Nat} {mn sto : Nat → Int} {fa : Nat → Nat} {Y : Ys} {Lb : Nat → List Trm} {LA : Nat → List Nat} {dn : Nat → Int} {ev : Nat → Nat}
theorem mnU_2 {rc v : Int} : mnU rc v (mnU rc v mn) = mnU rc v mn := by
  unfold mnU
  by_cases c : rc < 0
  · rw [if_pos c, if_pos c]
  · rw [if_neg c, if_neg c]
    funext z
    unfold fup
    by_cases e : z = rc.toNat
    · rw [if_pos e, if_pos e]
    · rw [if_neg e, if_neg e]
theorem Pubs_going (hPub : PubsC M (12 + N) pb Lb LA sto (ys Y)) : PubsC M (12 + N) pb Lb LA sto (st2 (ys Y) 226 t 0) := Pubs_sc hPub (fun t' _ z1 z2 => by
  by_cases e : t' = t
  · rw [e, vI_eq rfl] at z1; exact absurd rfl z1
  · rw [vI_ne (by omega)] at z1 z2
    exact ⟨⟨z1, z2⟩, fun a y => vI_ne (by omega)⟩)
/-- the next term, from where the publishing stands -/
theorem c_next30 (hC : CB M m al N pa own sd ps sn pu rf tm lf b0 eg tk pb as nb mn fa Y h) (h0 : PubsC M (12 + N) pb Lb LA sto (st2 (ys Y) 226 t 0)) (hLb : LibsC M N pa Lb LA dn) (ho : okW N own tm (yw Y)) (hrec : recY nb Y) (hh : hdW N Y t) (ht : t < 12 + N) (hlf : lf t + 1 < 2147483648) (hk : yv Y 227 t = 2) (hPt : pb t = some P) (hT : PbT M P (pbL (yv Y 243 t).toNat (Lb (yp Y t)) (LA (yp Y t)))) (h4 : 0 ≤ yv Y 244 t ∧ yv Y 244 t < 64) (e2 : rI M P 2 = yv Y 244 t) (e3 : rI M P 3 = yv Y 243 t) (e4 : rI M P 4 = 0) (e5 : rI M P 5 = sto t) (e6 : rI M P 6 = yv Y 246 t) (h6 : yv Y 246 t = 0 ∨ yv Y 246 t = 1) (hd : dtW t (yw Y) = yw Y) :
    ∃ M' lf' eg' x, f_X30_next ((P : Nat) : Int) ((wa pa t : Nat) : Int) M = some (x, M') ∧ (CB M' m al N pa own sd ps sn pu rf tm lf' b0 eg' tk pb as nb (mnU (yv Y 229 t) (sto t) mn) fa (nxtY m own Lb t Y) h ∧ PubsC M' (12 + N) pb Lb LA sto (ys (nxtY m own Lb t Y)) ∧ LibsC M' N pa Lb LA dn) ∧ FK F8 M M' ∧ LfS t 1 lf lf' ∧ x = b2i (decide (yv (nxtY m own Lb t Y) 226 t ≠ 0)) := by
  obtain ⟨PS, _⟩ := h0.1 t ht P hPt
  have hu := hC.2.1.1
  have k30 : (kd M P).1 = 30 := by rw [PS.1]
  have hx : Ex (fun z => z = P) M (sI M P 2 (yv Y 244 t + 1)) := Ex.st (A := fun z => z = P) rfl
  obtain ⟨C1, f1⟩ := CB_13 hC PS hx
  have I : ∀ i, i ≠ 2 → rI (sI M P 2 (yv Y 244 t + 1)) P i = rI M P i := fun i z => by rw [rI_sI, if_neg (by omega)]
  obtain ⟨M', lf', eg', x, r1, r2, r3, r4, r5⟩ := c_goes30 C1 (Pubs_0 hu ht hPt h0 hx) (Libs_fk f1 hu (by decide) hLb) ho hrec hh ht hlf hk hPt ⟨by rw [I 1 (by decide)]; exact hT.1, hT.2.1, hT.2.2⟩ (by omega) (by rw [rI_eq rfl, w32s (by omega)]) (by rw [I 3 (by decide)]; exact e3) (by rw [I 4 (by decide)]; exact e4) (by rw [I 5 (by decide)]; exact e5) (by rw [I 6 (by decide)]; exact e6) h6 hd
  refine ⟨M', lf', eg', x, ?_, r2, FK.trans (f1.mono (mo1 rfl)) (r3.mono (fun z hz => ?_)), r4, r5⟩
  · unfold f_X30_next
    rw [gfi_e k30, e2, Option.bind_some, pfi_e k30, Option.bind_some, ck_e (by rw [kd_sI]; exact k30), r1, Option.bind_some, bz_e (by rw [r5]; cases decide (yv (nxtY m own Lb t Y) 226 t ≠ 0); exact Or.inl rfl; exact Or.inr rfl)]
  · unfold FJ at hz
    unfold F8
    simp at hz ⊢
    omega
theorem c_looked30 (hC : CB M m al N pa own sd ps sn pu rf tm lf b0 eg tk pb as nb mn fa Y h) (hPub : PubsC M (12 + N) pb Lb LA sto (ys Y)) (hLb : LibsC M N pa Lb LA dn) (hs : sdY m N own tm Lb ev Y) (hB : bdg N ev oth) (hrec : recY nb Y) (hh : hdW N Y t) (ht : t < 12 + N) (hlf : lf t + 1 < 2147483648) (hk : yv Y 227 t = 2) (h1 : yv Y 230 t = 1) (h43 : 0 ≤ yv Y 243 t ∧ yv Y 243 t ≤ 16) (h4 : 0 ≤ yv Y 244 t) (h5 : (yv Y 244 t).toNat < (pbT (yv Y 243 t).toNat (Lb (yp Y t))).length) (h6 : yv Y 246 t = 0 ∨ yv Y 246 t = 1) (hPt : pb t = some P) (hsto : 0 ≤ yv Y 229 t → sto t = yv Y 269 (yv Y 229 t).toNat) (hd : dtW t (yw Y) = yw Y) (hw1 : wOK N own Lb (stoY m N own sd tm Lb t Y) t) (hT44 : 12 + N ≤ 44) :
    ∃ M' lf' eg' h' x sto', f_X30_looked ((P : Nat) : Int) ((wa pa t : Nat) : Int) M = some (x, M') ∧ (CB M' m al N pa own sd ps sn pu rf tm lf' b0 eg' tk pb as nb (mnU (yv Y 229 t) (sto' t) mn) fa (if yv (stoY m N own sd tm Lb t Y) 245 t = 0 then nxtY m own Lb t (stoY m N own sd tm Lb t Y) else stoY m N own sd tm Lb t Y) h' ∧ PubsC M' (12 + N) pb Lb LA sto' (ys (if yv (stoY m N own sd tm Lb t Y) 245 t = 0 then nxtY m own Lb t (stoY m N own sd tm Lb t Y) else stoY m N own sd tm Lb t Y)) ∧ LibsC M' N pa Lb LA dn) ∧ FK F8 M M' ∧ LfS t 1 lf lf' ∧ x = (if yv (stoY m N own sd tm Lb t Y) 245 t = 0 then b2i (decide (yv (nxtY m own Lb t (stoY m N own sd tm Lb t Y)) 226 t ≠ 0)) else 0) ∧ (0 ≤ yv Y 229 t → sto' t = yv (stoY m N own sd tm Lb t Y) 269 (yv Y 229 t).toNat) ∧ (∀ z, z ≠ t → sto' z = sto z) := by
  have hgo : yv Y 226 t ≠ 0 := by rw [hh.1]; decide
  have hrc := rc_ok hrec hh
  have pN := yp_lt hh
  have hm := hs.2.2.2.2
  have hN := hs.1.2.2.1
  obtain ⟨PS, PF⟩ := hPub.1 t ht P hPt
  obtain ⟨pT, f2, f3, f4, f5, f6⟩ := PF hgo hk
  rw [show vI (ys Y) 230 t = 1 from h1, if_neg (by decide)] at f4
  obtain ⟨lim, hlim⟩ : ∃ lim : Nat, yv Y 243 t = (lim : Int) := ⟨(yv Y 243 t).toNat, by omega⟩
  obtain ⟨k, hkk⟩ : ∃ k : Nat, yv Y 244 t = (k : Int) := ⟨(yv Y 244 t).toNat, by omega⟩
  have el : (yv Y 243 t).toNat = lim := by omega
  have ek : (yv Y 244 t).toNat = k := by omega
  obtain ⟨a, ha⟩ : ∃ a, a = wa pa t := ⟨_, rfl⟩
  obtain ⟨x, hx⟩ : ∃ x, x = trY Lb t Y := ⟨_, rfl⟩
  have hx2 : x = (pbT lim (Lb (yp Y t))).getD k trm0 := by rw [hx]; unfold trY; rw [el, ek]
  rw [el, ek] at h5
  have hox : okTr x := by
    have : x ∈ pbT lim (Lb (yp Y t)) := by rw [hx2]; exact getD_mem h5
    exact (hs.2.2.2.1 (yp Y t) (by omega)).2.2.2.2 x (List.mem_filter.mp this).1
  obtain ⟨F, hF⟩ : ∃ F, F = frontE m (yl Y t).2.2.1 := ⟨_, rfl⟩
  have F20 : F.length ≤ 20 := by rw [hF]; exact front_len _ hm.2
  obtain ⟨s0, hs0⟩ : ∃ s0 : Wd × VV, s0 = (yw Y, st2 (st2 (ys Y) 230 t 2) 245 t 0) := ⟨_, rfl⟩
  obtain ⟨g, hg⟩ : ∃ g, g = stoN N own sd tm t (yp Y t) lim x := ⟨_, rfl⟩
  have I0 : SI M m al N pa own sd ps sn pu rf tm lf b0 eg tk pb as nb mn fa Lb LA dn sto ev P t Y s0 h (sto t) := by
    rw [hs0]
    refine ⟨CB_sc hC (fun a i z => by rw [vI_ne (by omega), vI_ne (by omega)]) rfl, Pubs_going hPub, hLb, pT, ⟨f2, f3, by rw [f4, vI_eq rfl]; rfl, f5, by rw [f6, vI_ne (by omega), vI_ne (by omega)]⟩, ⟨hs.1, hs.2.1⟩, fun z => by rw [hsto z, vI_ne (by omega), vI_ne (by omega)], fun b i z1 z2 z3 z4 z5 => by rw [vI_ne (by omega), vI_ne (by omega)]⟩
  have s06 : ∀ j, vI ((F.take j).foldl g s0).2 246 t = 0 ∨ vI ((F.take j).foldl g s0).2 246 t = 1 := fun j => by
    rw [hg]
    exact stoF_6 _ _ (by rw [hs0]; show vI (st2 (st2 (ys Y) 230 t 2) 245 t 0) 246 t = 0 ∨ vI (st2 (st2 (ys Y) 230 t 2) 245 t 0) 246 t = 1; rw [vI_ne (by omega), vI_ne (by omega)]; exact h6)
  have t44 : t < 44 := by omega
  have okEs0 := hs.2.2.1 t t44
  -- all of the front
  have loop : ∀ (d j fu : Nat) (U : MM) (hU : Gh) (stU : Int), d + j = F.length → d < fu → SI U m al N pa own sd ps sn pu rf tm lf b0 eg tk pb as nb mn fa Lb LA dn sto ev P t Y ((F.take j).foldl g s0) hU stU → FK F8 M U → ∃ U' h' st', lpN (fun s : Int × MM => b_X30_looked_2 (P : Int) (a : Int) s.1 s.2) fu ((j : Int), U) = j_X30_looked_119 (P : Int) (a : Int) U' ∧ SI U' m al N pa own sd ps sn pu rf tm lf b0 eg tk pb as nb mn fa Lb LA dn sto ev P t Y (F.foldl g s0) h' st' ∧ FK F8 M U' := by
    intro d
    induction d with
    | zero =>
      intro j fu U hU stU hj hf hI hfk
      have : j = F.length := by omega
      subst this
      rw [List.take_length] at hI
      refine ⟨U, hU, stU, lpN_end (by omega) ?_, hI, hfk⟩
      obtain ⟨w1, w2, _⟩ := hI.1.2.1.2.2.1 t ht
      rw [← ha] at w1 w2
      have w2 : LuC U (a + 5) m (yl Y t).1 (yl Y t).2.2.1 (eg t).1 (eg t).2 := w2
      have k15 : (kd U (a + 5)).1 = 15 := by rw [w2.1.1]
      show b_X30_looked_2 (P : Int) (a : Int) ((F.length : Nat) : Int) U = _
      unfold b_X30_looked_2
      rw [gfr_e w1.1, w1.2.1.2.1, Option.bind_some, ck_e k15]
      rcases c_front w2 hm F20 with ⟨j, j1, j2, j3⟩ | ⟨j2, j3⟩
      · rw [← hF, List.getElem?_eq_none (Nat.le_refl _)] at j3; cases j3
      · rw [j2, Option.bind_some, if_pos rfl]
    | succ d ih =>
      intro j fu U hU stU hj hf hI hfk
      obtain ⟨fu', rfl⟩ : ∃ f, fu = f + 1 := ⟨fu - 1, by omega⟩
      obtain ⟨w1, w2, _⟩ := hI.1.2.1.2.2.1 t ht
      have w2 : LuC U (wa pa t + 5) m (yl Y t).1 (yl Y t).2.2.1 (eg t).1 (eg t).2 := w2
      rcases c_front (i := j) w2 hm (by omega) with ⟨i, j1, j2, j3⟩ | ⟨j2, j3⟩
      · rw [← hF] at j3
        obtain ⟨e, he⟩ : ∃ e, e = (yl Y t).2.2.1.getD i ent0 := ⟨_, rfl⟩
        rw [← he] at j3
        have hen := (w2.2.2.2.2.2.1 i (by have := w2.2.2.2.1; omega)).2
        have hde := w2.2.2.2.2.2.2.2.2.2 i j1
        rw [← he] at hde
        have hoe : okE e := okEs0.2.2 e (by rw [he]; exact getD_mem j1)
        obtain ⟨U1, h1', st1, r1, r2, r3⟩ := c_sto1 (x := x) (lim := lim) (k := k) (i := j) hI hB ht hPt hh hrc hlim (by omega) hkk h5 hx2 hox hN (s06 j) hen hde hoe (En_mo hen).1 j2
        have ef : g ((F.take j).foldl g s0) e = (F.take (j + 1)).foldl g s0 := by
          have : F[j]? = some e := j3
          rw [List.take_succ, this, List.foldl_append]
          rfl
        rw [← hg, ef] at r2
        obtain ⟨U', h', st', q1, q2, q3⟩ := ih (j + 1) fu' U1 h1' st1 (by omega) (by omega) r2 (FK.trans hfk r3)
        refine ⟨U', h', st', ?_, q2, q3⟩
        rw [← ha] at r1
        rw [lpN_cnt (b := fun s : Int × MM => b_X30_looked_2 (P : Int) (a : Int) s.1 s.2) (s := ((j : Int), U)) r1]
        exact q1
      · rw [← hF, List.getElem?_eq_getElem (by omega)] at j3; cases j3
  obtain ⟨U, h', st', q1, q2, q3⟩ := loop F.length 0 FU M h (sto t) (by omega) (by unfold FU; omega) I0 .refl
  obtain ⟨s, hse⟩ : ∃ s, s = F.foldl g s0 := ⟨_, rfl⟩
  rw [← hse] at q2
  obtain ⟨Y1, hY1⟩ : ∃ Y1, Y1 = stoY m N own sd tm Lb t Y := ⟨_, rfl⟩
  have eY1 : Y1 = (s.1, yl Y, s.2, yq Y) := by
    rw [hY1, hse, hg, hF, hs0, hx]
    unfold stoY
    rw [hd, el]
  obtain ⟨qC, qP, qL, qT, ⟨qe2, qe3, qe4, qe5, qe6⟩, ⟨qok, qev⟩, qst, qsw⟩ := q2
  rw [← eY1] at qC
  have v : ∀ b i, b ≠ 230 → b ≠ 245 → b ≠ 246 → b ≠ 268 → b ≠ 269 → yv Y1 b i = yv Y b i := fun b i z1 z2 z3 z4 z5 => by rw [eY1]; exact qsw b i z1 z2 z3 z4 z5
  have fT : FT t Y Y1 := by rw [hY1]; exact FT_sto
  have vp := FT_p fT
  have hh1 : hdW N Y1 t := hd_ft hh fT (v 226 t (by decide) (by decide) (by decide) (by decide) (by decide))
  have v5 : yv Y1 245 t = vI s.2 245 t := by rw [eY1]
  have v6 : yv Y1 246 t = vI s.2 246 t := by rw [eY1]
  have g30 : yv Y1 230 t = 2 := by
    rw [hY1]
    show vI ((frontE m (yl Y t).2.2.1).foldl (stoN N own sd tm t (yp Y t) (yv Y 243 t).toNat (trY Lb t Y)) (dtW t (yw Y), st2 (st2 (ys Y) 230 t 2) 245 t 0)).2 230 t = _
    rw [stoF_ne (s := (dtW t (yw Y), st2 (st2 (ys Y) 230 t 2) 245 t 0)) (by omega)]
    show vI (st2 (st2 (ys Y) 230 t 2) 245 t 0) 230 t = _
    rw [vI_ne (by omega), vI_eq rfl]; rfl
  obtain ⟨sto', hsto'⟩ : ∃ sto', sto' = fup sto t st' := ⟨_, rfl⟩
  have est : sto' t = st' := by rw [hsto']; exact fup_eq
  -- the task
  have wst' : w32 st' = st' := by rw [← qe5]; exact w32_rI
  obtain ⟨U1, k1, k2, k3⟩ := CB_task (v := st') qC ht (by rw [hh1.1]; decide) (by rw [v 229 t (by decide) (by decide) (by decide) (by decide) (by decide)]; exact hrc) wst'
  have v9 : yv Y1 229 t = yv Y 229 t := v 229 t (by decide) (by decide) (by decide) (by decide) (by decide)
  rw [v9] at k2
  have huU := qC.2.1.1
  have PSU : PbS U P := (qP.1 t ht P hPt).1
  obtain ⟨P13, P113⟩ := PbS_mo PSU
  have Pl := PbS_lt huU PSU
  have I1 : ∀ i, rI U1 P i = rI U P i := fun i => k3.rI (by omega) (by rw [P13]; rfl) i
  have R1 : ∀ i, rR U1 (P + 1) i = rR U (P + 1) i := fun i => k3.rR (by omega) (by rw [P113]; rfl) i
  have qP1 : PubsC U1 (12 + N) pb Lb LA sto' (st2 (ys Y1) 226 t 0) := by
    have H := Pubs_fk k3 huU (by decide) qP
    refine Pubs_w (sto := sto) (sc := st2 (ys Y) 226 t 0) (M := U1) (M1 := U1) k2.2.1.1 ht hPt H .refl (fun t' z b y => ?_) (fun t' z => by rw [hsto']; exact fup_ne z) (H.1 t ht P hPt).1 (fun z => absurd (by rw [vI_eq rfl]; rfl) z)
    rw [vI_ne (by omega), vI_ne (by omega)]
    by_cases c : b = 230 ∨ b = 245 ∨ b = 246
    · have := fT.2.2.1 b t' (by unfold wrT; omega)
      exact this
    · exact v b t' (by omega) (by omega) (by omega) (by omega) (by omega)
  have qL1 := Libs_fk k3 huU (by decide) qL
  have k30 : (kd U P).1 = 30 := by rw [PSU.1]
  have k301 : (kd U1 P).1 = 30 := by rw [(qP1.1 t ht P hPt).1.1]
  have fk1 : FK F8 M U1 := FK.trans q3 (k3.mono (mo1 rfl))
  have run : f_X30_looked (P : Int) ((wa pa t : Nat) : Int) M = j_X30_looked_137 (P : Int) ((wa pa t : Nat) : Int) U1 := by
    unfold f_X30_looked l_X30_looked_2
    rw [← ha]
    rw [show lpN (fun s : Int × MM => b_X30_looked_2 (P : Int) (a : Int) s.1 s.2) FU (0, M) = _ from q1, ha]
    unfold j_X30_looked_119
    rw [show ((gfr 11 4 ((wa pa t : Nat) : Int) U).bind fun v1 => if v1 = -1 then j_X30_looked_137 (P : Int) ((wa pa t : Nat) : Int) U else (gfr 11 4 ((wa pa t : Nat) : Int) U).bind fun v2 => (gfi 30 5 (P : Int) U).bind fun v3 => (pfi 26 4 v2 v3 U).bind fun M1 => j_X30_looked_137 (P : Int) ((wa pa t : Nat) : Int) M1) = j_X30_looked_137 (P : Int) ((wa pa t : Nat) : Int) U1 from by rw [gfi_e k30, qe5]; exact k1 _]
  rw [run, ← hY1]
  have r4 : rI U1 P 4 = yv Y1 245 t := by rw [I1, qe4, v5]
  have w45 : w32 (yv Y1 245 t) = yv Y1 245 t := w32_vI
  unfold j_X30_looked_137
  rw [gfi_e k301, r4, Option.bind_some, w45]
  have pT1 : PbT U1 P (pbL (yv Y1 243 t).toNat (Lb (yp Y1 t)) (LA (yp Y1 t))) := by
    rw [v 243 t (by decide) (by decide) (by decide) (by decide) (by decide), vp]
    exact ⟨by rw [I1]; exact qT.1, qT.2.1, fun i hi => by rw [R1]; exact qT.2.2 i hi⟩
  have stov : 0 ≤ yv Y 229 t → sto' t = yv Y1 269 (yv Y 229 t).toNat := fun z => by rw [est, qst z, eY1]
  have s6' : yv Y1 246 t = 0 ∨ yv Y1 246 t = 1 := by
    rw [v6, hse]
    have := s06 F.length
    rw [List.take_length] at this; exact this
  by_cases c : yv Y1 245 t = 0
  · rw [if_pos c, if_pos c, if_pos c, ck_e k301]
    have cn : cnA (yp Y1 t) t (yw Y1) = 0 := by
      rw [← hY1] at hw1
      rcases (wOK_hd hw1 (by rw [hh1.1]; decide)).2 with z | z | ⟨_, _, _, _, _, _, z⟩ | ⟨z, _⟩
      · omega
      · omega
      · have := z g30; omega
      · have := fT.2.2.2.1.1; omega
    rw [← hY1] at hw1
    obtain ⟨M', lf', eg', x', r1, r2, r3, r4', r5⟩ := c_next30 (sto := sto') k2 qP1 qL1 (by rw [eY1]; exact qok) (rec_ft hrec fT (fun _ => hgo)) hh1 ht hlf (fT.2.2.2.1.1.trans hk) hPt pT1 (by rw [v 244 t (by decide) (by decide) (by decide) (by decide) (by decide)]; have := pT.2.1; have := (pbL_len (lim := lim) (hLb (yp Y t) pN).2.2.2.2.2.1).1; rw [show vI (ys Y) 243 t = (lim : Int) from hlim] at pT; have q := pT.2.1; rw [show ((lim : Nat) : Int).toNat = lim from rfl] at q; have q : (pbL lim (Lb (yp Y t)) (LA (yp Y t))).length ≤ 64 := q; omega) (by rw [I1, v 244 t (by decide) (by decide) (by decide) (by decide) (by decide)]; exact qe2) (by rw [I1, v 243 t (by decide) (by decide) (by decide) (by decide) (by decide)]; exact qe3) (by rw [r4]; exact c) (by rw [I1, est]; exact qe5) (by rw [I1, v6]; exact qe6) s6' (wOK_id hw1 cn)
    rw [v9] at r2
    have em : mnU (yv Y 229 t) (sto' t) (mnU (yv Y 229 t) st' mn) = mnU (yv Y 229 t) (sto' t) mn := by rw [est]; exact mnU_2
    rw [em] at r2
    refine ⟨M', lf', eg', h', _, sto', ?_, r2, FK.trans fk1 r3, r4', rfl, stov, fun z hz => by rw [hsto']; exact fup_ne hz⟩
    rw [r1, Option.bind_some, r5, w32_b2i]
    unfold j_X30_looked_156 j_X30_looked_157
    cases decide (yv (nxtY m own Lb t Y1) 226 t ≠ 0) with
    | true => rw [if_neg (by decide), bz_e (Or.inr rfl)]; rfl
    | false => rw [if_pos (by decide), bz_e (Or.inl rfl)]; rfl
  · rw [if_neg c, if_neg c, if_neg c]
    refine ⟨U1, lf, eg, h', 0, sto', ?_, ⟨by rw [est]; exact k2, ?_, qL1⟩, fk1, .refl, rfl, stov, fun z hz => by rw [hsto']; exact fup_ne hz⟩
    · unfold j_X30_looked_156 j_X30_looked_157
      rw [bz_e (Or.inl rfl)]
    · refine Pubs_w (sto := sto') (sc := st2 (ys Y1) 226 t 0) (M := U1) (M1 := U1) k2.2.1.1 ht hPt qP1 .refl (fun t' z b y => (vI_ne (by omega)).symm) (fun _ _ => rfl) (qP1.1 t ht P hPt).1 (fun _ _ => ⟨pT1, ?_, ?_, ?_, ?_, ?_⟩)
      · rw [I1, qe2]; exact (v 244 t (by decide) (by decide) (by decide) (by decide) (by decide)).symm
      · rw [I1, qe3]; exact (v 243 t (by decide) (by decide) (by decide) (by decide) (by decide)).symm
      · rw [show vI (ys Y1) 230 t = 2 from g30, if_pos rfl, r4]
      · rw [I1, qe5, est]
      · rw [I1, qe6]; exact v6.symm
end CLK30
