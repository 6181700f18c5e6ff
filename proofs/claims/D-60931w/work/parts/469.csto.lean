/-! postings are stored by the class -/
def F8 : Nat → Bool := fun z => z == 1 || z == 3 || z == 5 || z == 6 || z == 7 || z == 11 || z == 12 || z == 13
section CSTO
variable {S : Nat → Bool} {M M1 M2 : MM} {m al N p t nb n P k oth dd i : Nat} {pa tk : Nat → Nat} {own : Nat → Ky} {sd ps sn pu rf : Nat → Int} {tm how : Int} {lf : Nat → Nat} {b0 : Nat × Nat} {h : Gh} {eg : EG} {pb as : Nat → Option Nat} {mn sto : Nat → Int} {fa : Nat → Nat} {Y : Ys} {Lb : Nat → List Trm} {LA : Nat → List Nat} {dn : Nat → Int} {s : Wd × VV} {e : Ent} {x : Trm} {lim : Nat} {st : Int} {ev : Nat → Nat} {w w1 : Wd}
/-- what is so as a term is stored -/
def SI (M : MM) (m al N : Nat) (pa : Nat → Nat) (own : Nat → Ky) (sd ps sn pu rf : Nat → Int) (tm : Int) (lf : Nat → Nat) (b0 : Nat × Nat) (eg : EG) (tk : Nat → Nat) (pb as : Nat → Option Nat) (nb : Nat) (mn : Nat → Int) (fa : Nat → Nat) (Lb : Nat → List Trm) (LA : Nat → List Nat) (dn sto : Nat → Int) (ev : Nat → Nat) (P t : Nat) (Y : Ys) (s : Wd × VV) (h : Gh) (st : Int) : Prop :=
  CB M m al N pa own sd ps sn pu rf tm lf b0 eg tk pb as nb mn fa (s.1, yl Y, s.2, yq Y) h ∧ PubsC M (12 + N) pb Lb LA sto (st2 (ys Y) 226 t 0) ∧ LibsC M N pa Lb LA dn ∧ PbT M P (pbL (yv Y 243 t).toNat (Lb (yp Y t)) (LA (yp Y t))) ∧ (rI M P 2 = yv Y 244 t ∧ rI M P 3 = yv Y 243 t ∧ rI M P 4 = vI s.2 245 t ∧ rI M P 5 = st ∧ rI M P 6 = vI s.2 246 t) ∧ (okW N own tm s.1 ∧ EvI N ev s.1) ∧ (0 ≤ yv Y 229 t → st = vI s.2 269 (yv Y 229 t).toNat) ∧ (∀ a i, a ≠ 230 → a ≠ 245 → a ≠ 246 → a ≠ 268 → a ≠ 269 → vI s.2 a i = yv Y a i)
theorem ok_st (h : okW N own tm w) (hw : wst w1 = wst w ∧ wT w1 = wT w ∧ wnx w1 = wnx w ∧ wQ w1 = wQ w) : okW N own tm w1 := by
  unfold okW at *
  rw [hw.1, hw.2.1, hw.2.2.1, hw.2.2.2]; exact h
theorem ev_st (h : EvI N ev w) (hw : wnx w1 = wnx w ∧ wQ w1 = wQ w) : EvI N ev w1 := by
  unfold EvI at *
  rw [hw.1, hw.2]; exact h
/-- words of a publishing -/
theorem Pubs_0 {M1 : MM} (hu : UN M) (ht : t < 12 + N) (hP : pb t = some P) (h : PubsC M (12 + N) pb Lb LA sto (st2 (ys Y) 226 t 0)) (hx : Ex (fun z => z = P) M M1) : PubsC M1 (12 + N) pb Lb LA sto (st2 (ys Y) 226 t 0) :=
  Pubs_w hu ht hP h ((ExC_ex hx).exa.mono (fun z hz => Or.inl hz)) (fun _ _ _ _ => rfl) (fun _ _ => rfl) (by
    obtain ⟨PS, _⟩ := h.1 t ht P hP
    exact ⟨by rw [hx.kd]; exact PS.1, by rw [hx.rR]; exact PS.2.1, by rw [hx.kd]; exact PS.2.2⟩) (fun z => absurd (by rw [vI_eq rfl]; rfl) z)
theorem CB_13 {Y : Ys} (hC : CB M m al N pa own sd ps sn pu rf tm lf b0 eg tk pb as nb mn fa Y h) (PS : PbS M P) (hx : Ex (fun z => z = P) M M1) : CB M1 m al N pa own sd ps sn pu rf tm lf b0 eg tk pb as nb mn fa Y h ∧ FK (fun z => z == 13) M M1 := by
  obtain ⟨hP, hL, hW, hT⟩ := hC
  have f : FK (fun z => z == 13) M M1 := FK_ex hx (fun z _ hz => by rw [hz, (PbS_mo PS).1]; rfl)
  exact ⟨⟨cp_11 hP f (by decide) ⟨hx.nN, hx.nU⟩, LksC_fk f (by decide) hL, Wks_fk hL f (by decide) hW, Tks_fk hL.1 f (by decide) hT⟩, f⟩
/-- one of the front stores -/
theorem c_sto1 (hI : SI M m al N pa own sd ps sn pu rf tm lf b0 eg tk pb as nb mn fa Lb LA dn sto ev P t Y s h st) (hB : bdg N ev oth) (ht : t < 12 + N) (hPt : pb t = some P) (hh : hdW N Y t) (hrc : rcOK nb Y t) (hl : yv Y 243 t = (lim : Int)) (hlim : lim ≤ 16) (hk : yv Y 244 t = (k : Int)) (hk2 : k < (pbT lim (Lb (yp Y t))).length) (hx : x = (pbT lim (Lb (yp Y t))).getD k trm0) (hox : okTr x) (hN : N ≤ 32) (h6 : vI s.2 246 t = 0 ∨ vI s.2 246 t = 1) (hen : isEn M dd) (hde : enC M dd = e) (hoe : okE e) (hd7 : mo M dd = 6) (hfr : f_X15_front ((wa pa t + 5 : Nat) : Int) (i : Int) M = some (dd : Int)) :
    ∃ M' h' st', b_X30_looked_2 (P : Int) ((wa pa t : Nat) : Int) (i : Int) M = some (.inl (((i + 1 : Nat) : Int), M')) ∧ SI M' m al N pa own sd ps sn pu rf tm lf b0 eg tk pb as nb mn fa Lb LA dn sto ev P t Y (stoN N own sd tm t (yp Y t) lim x s e) h' st' ∧ FK F8 M M' := by
  obtain ⟨hC, h0, hLb, hT, ⟨e2, e3, e4, e5, e6⟩, ⟨hok, hev⟩, hst, hsw⟩ := id hI
  obtain ⟨hP, hL, hW, hTk⟩ := id hC
  obtain ⟨hu, u1, u2, u3⟩ := id hL
  obtain ⟨w1, w2, w3, w4, w5⟩ := u2 t ht
  have sw6 : vI s.2 226 t = yv Y 226 t := hsw 226 t (by decide) (by decide) (by decide) (by decide) (by decide)
  have sw8 : vI s.2 228 t = yv Y 228 t := hsw 228 t (by decide) (by decide) (by decide) (by decide) (by decide)
  have sw9 : vI s.2 229 t = yv Y 229 t := hsw 229 t (by decide) (by decide) (by decide) (by decide) (by decide)
  have hgo : yv Y 226 t ≠ 0 := by rw [hh.1]; decide
  obtain ⟨Yi, hYi⟩ : ∃ Yi : Ys, Yi = (s.1, yl Y, s.2, yq Y) := ⟨_, rfl⟩
  rw [← hYi] at hC hW hTk hL hP
  have hgoi : yv Yi 226 t ≠ 0 := by rw [hYi]; show vI s.2 226 t ≠ 0; rw [sw6]; exact hgo
  have ypi : yp Yi t = yp Y t := by unfold yp; rw [hYi]; show (vI s.2 228 t).toNat = _; rw [sw8]
  obtain ⟨g1, g2, _⟩ := (hW t ht).2.2.2 hgoi
  have pN := yp_lt hh
  obtain ⟨p, hp⟩ : ∃ p, p = yp Y t := ⟨_, rfl⟩
  have g1 : rR M (wa pa t) 2 = ((pa p : Nat) : Int) := by
    have : (vI (ys Yi) 228 t).toNat = p := by rw [hp]; exact ypi
    rw [this] at g1; exact g1
  rw [← hp] at pN hk2 hx hT ⊢
  obtain ⟨PS, _⟩ := h0.1 t ht P hPt
  obtain ⟨P13, P113⟩ := PbS_mo PS
  have Pl := PbS_lt hu PS
  have hPw : yw Yi = s.1 := by rw [hYi]
  rw [hPw] at hP
  obtain ⟨o1, o2, o3, o4, o5⟩ := Wl_mo w1
  have m31 : mo M 31 = 7 := mo_cl (BdS_31 hP.1.1) (by decide) (by decide)
  have m32 : mo M 32 = 7 := mo_kw (q := 31) hP.1.1.2.2.2.2.2.2.1.1.2.2 (Or.inr (Or.inl rfl)) (BdS_31 hP.1.1) (by decide) (by decide)
  have nz : ∀ z, mo M z ≠ 7 → z ≠ 31 ∧ z ≠ 32 := fun z hz => ⟨fun q => by rw [q, m31] at hz; exact hz rfl, fun q => by rw [q, m32] at hz; exact hz rfl⟩
  have lib := hLb p pN
  have el : (yv Y 243 t).toNat = lim := by omega
  rw [el] at hT
  obtain ⟨ll, le⟩ := pbL_len (lim := lim) lib.2.2.2.2.2.1
  obtain ⟨xa, hxa⟩ : ∃ xa, xa = ((pbL lim (Lb p) (LA p)).getD k (0, trm0)).1 := ⟨_, rfl⟩
  have tc : TrC M xa x := by rw [hxa, hx]; exact pbL_tr lib hk2
  obtain ⟨q1, q2, q3, q4, q5⟩ := TrC_mo tc
  have k64 : k < 64 := by have := hT.2.1; omega
  obtain ⟨M1, c1, c2, c3⟩ := c_write (k := k) (x := xa) (tr := x) (lim := lim) hP pN (by omega) w1.1 g1 PS (nz _ (by rw [o1]; decide)) ⟨(nz _ (by rw [P13]; decide)).1, (nz _ (by rw [P13]; decide)).2, (nz _ (by rw [P113]; decide)).1, (nz _ (by rw [P113]; decide)).2⟩ (by rw [e2]; exact hk) k64 (by rw [hT.2.2 k (by omega), ← hxa]) (by rw [e3]; exact hl) hlim tc (fun z z1 z2 => nz z (by
    have e : z = xa ∨ z = xa + 1 ∨ z = xa + 2 ∨ z = xa + 3 ∨ z = xa + 4 := by omega
    rcases e with e | e | e | e | e <;> rw [e]
    · rw [q1]; decide
    · rw [q2]; decide
    · rw [q3]; decide
    · rw [q4]; decide
    · rw [q5]; decide)) hox
  obtain ⟨P1, f1⟩ := cp_board hP c3 (by omega) (fun z _ hz => by rcases hz with e | e <;> rw [e]; exact m31; exact m32)
  have f1 : FK (fun z => z == 7) M M1 := f1 _ rfl
  have C1 : CB M1 m al N pa own sd ps sn pu rf tm lf b0 eg tk pb as nb mn fa Yi h := ⟨by rw [hPw]; exact P1, LksC_fk f1 (by decide) hL, Wks_fk hL f1 (by decide) hW, Tks_fk hu f1 (by decide) hTk⟩
  have pe := hP.2.2.2.2.1.2.2 p pN
  have k17 : (kd M (pa p)).1 = 17 := by rw [pe.1.1]
  obtain ⟨d1, d2, d3⟩ := En_mo hen
  have dl := isEn_lt hu hen
  have kx1 : isK M1 (dd + 1) := hen.2.2.2.ex c3
  have kp1 : isK M1 (pa p + 1) := pe.1.2.2.2.2.1.ex c3
  have kc1 : kC M1 (dd + 1) = kC M (dd + 1) := by funext j; exact c3.rI (by have := nz (dd + 2) (by rw [d3]; decide); show ¬ (dd + 1 + 1 = 31 ∨ dd + 1 + 1 = 32); omega) j
  have kc2 : kC M1 (pa p + 1) = kC M (pa p + 1) := by funext j; exact c3.rI (by have := pe.2.1; omega) j
  have ekey : ky (kC M1 (dd + 1)) = eKey e := by rw [kc1, ← hde]; rfl
  have eown : ky (kC M1 (pa p + 1)) = own p := by rw [kc2]; exact pe.2.2.1
  have eadr : rI M1 dd 1 = eAdr e := by rw [c3.rI (by have := nz dd (by rw [d1]; decide); omega), ← hde]; rfl
  have k15 : (kd M (wa pa t + 5)).1 = 15 := by rw [w2.1.1]
  have k30 : (kd M P).1 = 30 := by rw [PS.1]
  have is : f_X3_is ((dd + 1 : Nat) : Int) ((pa p + 1 : Nat) : Int) M1 = some (b2i (decide (eKey e = own p))) := by
    rw [e_X3_is kx1 kp1, ← kc_ky, ekey, eown]
    have := kc_160 hoe.1 (hok.2.2.2 p pN).1
    by_cases c : eKey e = own p
    · rw [if_pos (this.mpr c), decide_eq_true c]; rfl
    · rw [if_neg (fun z => c (this.mp z)), decide_eq_false c]; rfl
  -- the head of the body
  have head : b_X30_looked_2 (P : Int) ((wa pa t : Nat) : Int) (i : Int) M = if eKey e = own p then (f_X17_answers ((pa p : Nat) : Int) ((31 : Nat) : Int) (-1) M1).bind fun r3 => if w32 r3.1 = 0 then (pfz 30 6 (P : Int) 1 r3.2).bind fun M3 => j_X30_looked_113 (P : Int) ((wa pa t : Nat) : Int) (i : Int) M3 else (gfi 30 5 (P : Int) r3.2).bind fun v13 => (pfi 30 5 (P : Int) (v13 + 1) r3.2).bind fun M4 => j_X30_looked_113 (P : Int) ((wa pa t : Nat) : Int) (i : Int) M4 else (f_X11_ask ((wa pa t : Nat) : Int) ((dd + 1 : Nat) : Int) (eAdr e) M1).bind fun r2 => if w32 r2.1 = 0 then (pfz 30 6 (P : Int) 1 r2.2).bind fun M1 => j_X30_looked_113 (P : Int) ((wa pa t : Nat) : Int) (i : Int) M1 else (gfi 30 4 (P : Int) r2.2).bind fun v11 => (pfi 30 4 (P : Int) (v11 + 1) r2.2).bind fun M2 => j_X30_looked_113 (P : Int) ((wa pa t : Nat) : Int) (i : Int) M2 := by
    unfold b_X30_looked_2
    rw [gfr_e w1.1, w1.2.1.2.1, Option.bind_some, ck_e k15, hfr, Option.bind_some, if_neg (by omega), Option.bind_some, ck_e k15, hfr, Option.bind_some, ck_e k30, c1, Option.bind_some]
    dsimp only
    rw [gfr_e (by rw [c3.kd, hen.1]), c3.rR, hen.2.1, Option.bind_some, gfr_e (by rw [c3.kd]; exact w1.1), c3.rR, g1, Option.bind_some, gfr_e (by rw [c3.kd]; exact k17), c3.rR, pe.1.2.2.1.2.1, Option.bind_some, ck_e kx1.1, is, Option.bind_some, w32_b2i]
    by_cases c : eKey e = own p
    · rw [decide_eq_true c, if_neg (by decide), if_pos c, Option.bind_some, ck_e (by rw [c3.kd]; exact k17)]
    · rw [decide_eq_false c, if_pos (by decide), if_neg c, Option.bind_some, gfi_e (by rw [c3.kd, hen.1]), eadr, Option.bind_some, ck_e (by rw [c3.kd]; exact w1.1)]
  -- a word of the publishing, then the next one
  have fin : ∀ (M2 : MM) (h2 : Gh) (w2' : Wd) (sc2 : VV) (j : Nat) (v st2' : Int), FK F8 M M2 → (∀ z, mo M z = 13 ∨ mo M z = 4 → z < nN M → (∀ i, rI M2 z i = rI M z i) ∧ ∀ i, rR M2 z i = rR M z i) → CB M2 m al N pa own sd ps sn pu rf tm lf b0 eg tk pb as nb mn fa (w2', yl Y, sc2, yq Y) h2 → PubsC M2 (12 + N) pb Lb LA sto (st2 (ys Y) 226 t 0) → LibsC M2 N pa Lb LA dn → (j = 4 ∨ j = 5 ∨ j = 6) → vI sc2 245 t = (if j = 4 then w32 v else vI s.2 245 t) → st2' = (if j = 5 then w32 v else st) → vI sc2 246 t = (if j = 6 then w32 v else vI s.2 246 t) → okW N own tm w2' ∧ EvI N ev w2' → (0 ≤ yv Y 229 t → st2' = vI sc2 269 (yv Y 229 t).toNat) → (∀ a i, a ≠ 230 → a ≠ 245 → a ≠ 246 → a ≠ 268 → a ≠ 269 → vI sc2 a i = yv Y a i) → SI (sI M2 P j v) m al N pa own sd ps sn pu rf tm lf b0 eg tk pb as nb mn fa Lb LA dn sto ev P t Y (w2', sc2) h2 st2' ∧ FK F8 M (sI M2 P j v) := fun M2 h2 w2' sc2 j v st2' fk cells C2 H2 L2 hj v4 v5 v6 hok2 hst2 hsw2 => by
    have PS2 : PbS M2 P := (H2.1 t ht P hPt).1
    have hx : Ex (fun z => z = P) M2 (sI M2 P j v) := Ex.st (A := fun z => z = P) rfl
    obtain ⟨C3, f3⟩ := CB_13 C2 PS2 hx
    have hu2 := C2.2.1.1
    have I : ∀ i, rI (sI M2 P j v) P i = if i = j then w32 v else rI M P i := fun i => by
      rw [rI_sI]
      by_cases c : i = j
      · rw [if_pos ⟨rfl, c⟩, if_pos c]
      · rw [if_neg (fun z => c z.2), if_neg c]; exact (cells P (Or.inl P13) (by omega)).1 i
    refine ⟨⟨C3, Pubs_0 hu2 ht hPt H2 hx, Libs_fk f3 hu2 (by decide) L2, ?_, ⟨?_, ?_, ?_, ?_, ?_⟩, hok2, hst2, hsw2⟩, FK.trans fk (f3.mono (mo1 rfl))⟩
    · rw [el, ← hp]
      refine ⟨by rw [I, if_neg (by omega)]; exact hT.1, hT.2.1, fun i hi => ?_⟩
      rw [rR_sI, (cells (P + 1) (Or.inl P113) (by omega)).2]; exact hT.2.2 i hi
    · rw [I, if_neg (by omega)]; exact e2
    · rw [I, if_neg (by omega)]; exact e3
    · rw [I, v4]
      by_cases c : j = 4
      · rw [if_pos c.symm, if_pos c]
      · rw [if_neg (fun z => c z.symm), if_neg c]; exact e4
    · rw [I, v5]
      by_cases c : j = 5
      · rw [if_pos c.symm, if_pos c]
      · rw [if_neg (fun z => c z.symm), if_neg c]; exact e5
    · rw [I, v6]
      by_cases c : j = 6
      · rw [if_pos c.symm, if_pos c]
      · rw [if_neg (fun z => c z.symm), if_neg c]; exact e6
  have H1 := Pubs_fk f1 hu (by decide) h0
  have L1 := Libs_fk f1 hu (by decide) hLb
  have hu1 := C1.2.1.1
  have fk1 : FK F8 M M1 := f1.mono (mo1 rfl)
  have nx : ∀ M2, j_X30_looked_113 (P : Int) ((wa pa t : Nat) : Int) (i : Int) M2 = some (.inl (((i + 1 : Nat) : Int), M2)) := fun M2 => rfl
  -- cells that are not touched meanwhile
  have cells : ∀ (S : Nat → Bool) (M2 : MM), FK S M1 M2 → S 13 = false → S 4 = false → ∀ z, mo M z = 13 ∨ mo M z = 4 → z < nN M → (∀ i, rI M2 z i = rI M z i) ∧ ∀ i, rR M2 z i = rR M z i := fun S M2 f z13 z4 z hz hl => by
    have m1 : mo M1 z = mo M z := exa_mo f1 hl
    have sf : S (mo M1 z) = false := by rw [m1]; rcases hz with y | y <;> rw [y]; exact z13; exact z4
    have s7 : (fun z => z == 7) (mo M z) = false := by rcases hz with y | y <;> rw [y] <;> rfl
    have n1 : nN M1 = nN M := c3.nN
    exact ⟨fun i => (f.rI (by omega) sf i).trans (f1.rI hl s7 i), fun i => (f.rR (by omega) sf i).trans (f1.rR hl s7 i)⟩
  by_cases co : eKey e = own p
  · rw [if_pos co] at head
    obtain ⟨l, hl0⟩ : ∃ l, l = hdB 7 0 (kf (own p)) ++ stB x p lim := ⟨_, rfl⟩
    rw [← hl0] at c2
    have hin : isInT lim x = true := by
      have : x ∈ pbT lim (Lb p) := by rw [hx]; exact getD_mem hk2
      exact (List.mem_filter.mp this).2
    obtain ⟨W1, W2, W3, W4, W5, W6, W7⟩ := wl_sto (own := own p) (num := 0) hox hin (show p < 32 by omega) hlim
    rw [← hl0] at W1 W2 W3 W4 W5 W6
    have bl : isBL l := fun b hb => by
      obtain ⟨j, hj, ej⟩ := List.getElem_of_mem hb
      have := pk_b c2 hj
      rw [gd_get hj, ej] at this; exact this
    obtain ⟨M2, h2, a1, a2, a3, a4⟩ := cp_answers (x := 31) (x2 := -1) (wo := none) P1 hok pN (Or.inr rfl) c2 bl W1 (by rw [W2]; decide) (Or.inl ⟨rfl, rfl⟩)
    have fk2 : FK (fun z => z == 3 || z == 5 || z == 7) M1 M2 := FK_exa a4 (fun z _ hz => by
      rcases hz with y | y | y
      · rw [y]; rfl
      · rw [y]; rfl
      · rw [aq_mo P1.1.1 y]; rfl)
    have ew : ansW tm s.1 p l = (match keepS x.2.1 (pstT p lim x) (tm + wst s.1 7) (wS s.1 p) with | some S' => (setS s.1 (fup (wS s.1) p S'), true) | none => (setL s.1 (tlU (wtl s.1) (5 * p + 2)), false)) := by
      unfold ansW
      rw [if_pos W2, W3, W4, Int.toNat_natCast, W5]
      rfl
    have es : stoN N own sd tm t p lim x s e = (match keepS x.2.1 (pstT p lim x) (tm + wst s.1 7) (wS s.1 p) with | some S' => (setS s.1 (fup (wS s.1) p S'), stdS t true s.2) | none => (setL s.1 (tlU (wtl s.1) (5 * p + 2)), stdS t false s.2)) := by
      unfold stoN
      rw [if_pos co]
      rfl
    have L2 : LksC M2 m (12 + N) pa (yl Y) lf eg := by
      have := LksC_fk fk2 (by decide) C1.2.1
      rw [hYi] at this; exact this
    have C2 := CB_w C1 a2 L2 fk2 (by decide)
    have H2 := Pubs_fk fk2 hu1 (by decide) H1
    have Lb2 := Libs_fk fk2 hu1 (by decide) L1
    have fk12 : FK F8 M M2 := FK.trans fk1 (fk2.mono (mo3 ⟨rfl, rfl, rfl⟩))
    have ce := cells _ M2 fk2 rfl rfl
    have k302 : (kd M2 P).1 = 30 := by rw [(H2.1 t ht P hPt).1.1]
    have rI5 : rI M2 P 5 = st := by rw [(ce P (Or.inl P13) (by omega)).1]; exact e5
    rw [a1, Option.bind_some, w32_b2i] at head
    have eYs : ys Yi = s.2 := by rw [hYi]
    have eYq : yq Yi = yq Y := by rw [hYi]
    rw [eYs, eYq] at C2
    cases hkp : keepS x.2.1 (pstT p lim x) (tm + wst s.1 7) (wS s.1 p) with
    | some S' =>
      rw [hkp] at ew es
      dsimp only at ew es
      rw [ew] at C2 head
      dsimp only at C2 head
      rw [if_neg (by decide), gfi_e k302, rI5, Option.bind_some, pfi_e k302, Option.bind_some, nx] at head
      have C3 := CB_sc (sc := stdS t true s.2) (q := yq Y) C2 (fun a i z => stdS_ne (by omega) (by omega)) rfl
      rw [es]
      obtain ⟨r1, r2⟩ := fin M2 h2 (setS s.1 (fup (wS s.1) p S')) (stdS t true s.2) 5 (st + 1) (w32 (st + 1)) fk12 ce C3 H2 Lb2 (by omega) (by rw [if_neg (by decide)]; exact stdS_ne (by decide) (by decide)) (by rw [if_pos rfl]) (by
        rw [if_neg (by decide)]
        unfold stdS
        rw [if_pos rfl]
        by_cases c : 0 ≤ vI s.2 229 t
        · rw [if_pos c]; exact vI_ne (by omega)
        · rw [if_neg c]) ⟨ok_st hok ⟨rfl, rfl, rfl, rfl⟩, ev_st hev ⟨rfl, rfl⟩⟩ (fun z => by
        unfold stdS
        rw [if_pos rfl, sw9, if_pos z, vI_eq rfl, ← hst z]) (fun a i y1 y2 y3 y4 y5 => by rw [stdS_ne y3 y5]; exact hsw a i y1 y2 y3 y4 y5)
      exact ⟨_, h2, _, head, r1, r2⟩
    | none =>
      rw [hkp] at ew es
      dsimp only at ew es
      rw [ew] at C2 head
      dsimp only at C2 head
      rw [if_pos (by decide), pfz_e k302 (Or.inr rfl), Option.bind_some, nx] at head
      have C3 := CB_sc (sc := stdS t false s.2) (q := yq Y) C2 (fun a i z => stdS_ne (by omega) (by omega)) rfl
      rw [es]
      have e46 : stdS t false s.2 = st2 s.2 246 t 1 := by unfold stdS; rw [if_neg (by decide)]
      obtain ⟨r1, r2⟩ := fin M2 h2 (setL s.1 (tlU (wtl s.1) (5 * p + 2))) (stdS t false s.2) 6 1 st fk12 ce C3 H2 Lb2 (by omega) (by rw [if_neg (by decide)]; exact stdS_ne (by decide) (by decide)) (by rw [if_neg (by decide)]) (by rw [if_pos rfl, e46, vI_eq rfl]) ⟨ok_st hok ⟨rfl, rfl, rfl, rfl⟩, ev_st hev ⟨rfl, rfl⟩⟩ (fun z => by rw [e46, vI_ne (by omega)]; exact hst z) (fun a i y1 y2 y3 y4 y5 => by rw [stdS_ne y3 y5]; exact hsw a i y1 y2 y3 y4 y5)
      exact ⟨_, h2, _, head, r1, r2⟩
  · rw [if_neg co] at head
    have md : mo M1 (dd + 1) = 6 ∧ mo M1 (dd + 1 + 1) = 6 := ⟨by rw [exa_mo f1 (by omega)]; exact d2, by rw [exa_mo f1 (by omega)]; exact d3⟩
    have pl := pst_len (p := p) (x := x) lim
    obtain ⟨M2, h2, a1, a2, a3⟩ := c_askW (x4 := 1) (ad := eAdr e) (ty := 7) (bd := stB x p lim) (kx := dd + 1) C1 (by rw [hPw]; exact hok) ht hgoi (by rw [ypi, ← hp]; exact pN) (by rw [show yv Yi 229 t = yv Y 229 t from by rw [hYi]; exact sw9]; exact hrc) kx1 ⟨⟨by rw [md.1]; decide, by rw [md.2]; decide⟩, by rw [md.1]; decide, by rw [md.2]; decide⟩ (by rw [ypi, ← hp]; exact c2) (by decide) hoe.2.1 (by decide)
    rw [hPw, ypi, ← hp, ekey] at a1 a2
    have eYs : ys Yi = s.2 := by rw [hYi]
    have eYq : yq Yi = yq Y := by rw [hYi]
    have eYl : yl Yi = yl Y := by rw [hYi]
    rw [eYs, eYq, eYl] at a2
    have es : stoN N own sd tm t p lim x s e = ((askY N own sd tm s.1 p (eAdr e) 7 (eKey e) (stB x p lim) (some t) none).1, if (askY N own sd tm s.1 p (eAdr e) 7 (eKey e) (stB x p lim) (some t) none).2 = true then st2 (raS t s.2) 245 t (vI (raS t s.2) 245 t + 1) else st2 (raS t s.2) 246 t 1) := by
      unfold stoN
      rw [if_neg co]
    obtain ⟨ok, hok0⟩ : ∃ ok, ok = (askY N own sd tm s.1 p (eAdr e) 7 (eKey e) (stB x p lim) (some t) none).2 := ⟨_, rfl⟩
    obtain ⟨w', hw'⟩ : ∃ w', w' = (askY N own sd tm s.1 p (eAdr e) 7 (eKey e) (stB x p lim) (some t) none).1 := ⟨_, rfl⟩
    rw [← hok0] at a1
    rw [← hok0, ← hw'] at es
    rw [← hw'] at a2
    have H2 := Pubs_fk a3 hu1 (by decide) H1
    have Lb2 := Libs_fk a3 hu1 (by decide) L1
    have fk12 : FK F8 M M2 := FK.trans fk1 (a3.mono (mo3 ⟨rfl, rfl, rfl⟩))
    have ce := cells _ M2 a3 rfl rfl
    have k302 : (kd M2 P).1 = 30 := by rw [(H2.1 t ht P hPt).1.1]
    have rI4 : rI M2 P 4 = vI s.2 245 t := by rw [(ce P (Or.inl P13) (by omega)).1]; exact e4
    have bl : isBL (stB x p lim) ∧ (stB x p lim).length ≤ 325 := by
      refine ⟨fun b hb => ?_, ?_⟩
      · have hb2 : b ∈ hdB 7 0 (kf (own p)) ++ stB x p lim := List.mem_append.mpr (Or.inr hb)
        obtain ⟨j, hj, ej⟩ := List.getElem_of_mem hb2
        have := pk_b c2 hj
        rw [gd_get hj, ej] at this; exact this
      · unfold stB
        rw [List.length_append, kbs_len, List.length_cons, be3_flat]; omega
    have okw' : okW N own tm w' ∧ EvI N ev w' := ⟨by rw [hw']; exact ok_ask hok hev hB pN hoe.2.1 (by decide) bl.1 bl.2, by rw [hw']; exact ev_ask hev⟩
    have fa1 : f_X11_ask ((wa pa t : Nat) : Int) ((dd + 1 : Nat) : Int) (eAdr e) M1 = some (b2i ok, M2) := by
      unfold f_X11_ask
      rw [ck_e (by rw [c3.kd]; exact w1.1), a1, Option.bind_some, bz_e (by cases ok; exact Or.inl rfl; exact Or.inr rfl)]
    rw [fa1, Option.bind_some] at head
    dsimp only at head
    rw [w32_b2i] at head
    rw [es]
    cases hb : ok with
    | true =>
      rw [hb] at head
      rw [if_neg (by decide), gfi_e k302, rI4, Option.bind_some, pfi_e k302, Option.bind_some, nx] at head
      rw [if_pos rfl]
      have C3 := CB_sc (sc := st2 (raS t s.2) 245 t (vI (raS t s.2) 245 t + 1)) (q := yq Y) a2 (fun a i z => vI_ne (by omega)) rfl
      have r45 : vI (raS t s.2) 245 t = vI s.2 245 t := raS_ne (by decide)
      obtain ⟨r1, r2⟩ := fin M2 h2 w' (st2 (raS t s.2) 245 t (vI (raS t s.2) 245 t + 1)) 4 (vI s.2 245 t + 1) st fk12 ce C3 H2 Lb2 (by omega) (by rw [if_pos rfl, vI_eq rfl, r45]) (by rw [if_neg (by decide)]) (by rw [if_neg (by decide), vI_ne (by omega), raS_ne (by decide)]) okw' (fun z => by rw [vI_ne (by omega), raS_ne (by decide)]; exact hst z) (fun a i y1 y2 y3 y4 y5 => by rw [vI_ne (by omega), raS_ne y4]; exact hsw a i y1 y2 y3 y4 y5)
      exact ⟨_, h2, _, head, r1, r2⟩
    | false =>
      rw [hb] at head
      rw [if_pos (by decide), pfz_e k302 (Or.inr rfl), Option.bind_some, nx] at head
      rw [if_neg (by decide)]
      have C3 := CB_sc (sc := st2 (raS t s.2) 246 t 1) (q := yq Y) a2 (fun a i z => vI_ne (by omega)) rfl
      obtain ⟨r1, r2⟩ := fin M2 h2 w' (st2 (raS t s.2) 246 t 1) 6 1 st fk12 ce C3 H2 Lb2 (by omega) (by rw [if_neg (by decide), vI_ne (by omega), raS_ne (by decide)]) (by rw [if_neg (by decide)]) (by rw [if_pos rfl, vI_eq rfl]) okw' (fun z => by rw [vI_ne (by omega), raS_ne (by decide)]; exact hst z) (fun a i y1 y2 y3 y4 y5 => by rw [vI_ne (by omega), raS_ne y4]; exact hsw a i y1 y2 y3 y4 y5)
      exact ⟨_, h2, _, head, r1, r2⟩
end CSTO
