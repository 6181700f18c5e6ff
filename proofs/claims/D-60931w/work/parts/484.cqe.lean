/-! what a query of the class comes to -/
def F9 : Nat → Bool := fun z => z == 1 || z == 3 || z == 5 || z == 7 || z == 11 || z == 12 || z == 14
/-- only cells of one query among those of the queries -/
def XQ (Q : Nat) (M M' : MM) : Prop := FK F9 M M' ∧ ∀ z, z < nN M → mo M z = 14 → (∀ i, M'.2.1 z i = M.2.1 z i) ∧ (¬ AQs Q z → ∀ i, M'.1 z i = M.1 z i)
def QE (r : Option MM) (M : MM) (m al N : Nat) (pa : Nat → Nat) (own : Nat → Ky) (sd ps sn pu rf : Nat → Int) (tm : Int) (lf : Nat → Nat) (b0 : Nat × Nat) (eg : EG) (tk : Nat → Nat) (pb as : Nat → Option Nat) (nb Q t : Nat) (Y' : Ys) : Prop :=
  ∃ M' h' lf' mn' fa' b0', r = some M' ∧ CB M' m al N pa own sd ps sn pu rf tm lf' b0' eg tk pb as nb mn' fa' Y' h' ∧ XQ Q M M' ∧ (yv Y' 226 t ≠ 0 → AsF M' Q (ys Y') (yq Y') t) ∧ LfS t 1 lf lf' ∧ (∀ r, r < nb → mn' r = yv Y' 269 r) ∧ BS b0 b0' Y' t
section CQE
variable {S : Nat → Bool} {Z : Nat → Prop} {M M1 M2 : MM} {m al N p t nb n Q pk : Nat} {pa tk : Nat → Nat} {own : Nat → Ky} {sd ps sn pu rf : Nat → Int} {tm how ty : Int} {lf : Nat → Nat} {b0 : Nat × Nat} {h : Gh} {eg : EG} {pb as : Nat → Option Nat} {mn sto : Nat → Int} {fa : Nat → Nat} {Y Y' : Ys} {l bd : List Int} {Lb : Nat → List Trm} {ev : Nat → Nat} {r : Option MM} {R : Nat → Int → Int → Int → MM → Option MM}
theorem XQ.refl : XQ Q M M := ⟨.refl, fun _ _ _ => ⟨fun _ => rfl, fun _ _ => rfl⟩⟩
theorem XQ.trans (h1 : XQ Q M M1) (h2 : XQ Q M1 M2) : XQ Q M M2 := ⟨FK.trans h1.1 h2.1, fun z hz hm => by
  obtain ⟨a1, a2⟩ := h1.2 z hz hm
  obtain ⟨b1, b2⟩ := h2.2 z (Nat.lt_of_lt_of_le hz h1.1.1) (by rw [exa_mo h1.1 hz]; exact hm)
  exact ⟨fun i => (b1 i).trans (a1 i), fun hq i => (b2 hq i).trans (a2 hq i)⟩⟩
theorem XQ_fk (f : FK S M M1) (hs : ∀ z, S z = true → F9 z = true) (h14 : S 14 = false) : XQ Q M M1 := ⟨f.mono hs, fun z hz hm => by
  obtain ⟨a1, a2⟩ := f.cell hz (by rw [hm]; exact h14)
  exact ⟨a2, fun _ => a1⟩⟩
theorem XQ_ex (hS : AsS M Q) (hx : Ex Z M M1) (hZ : ∀ z, Z z → AQs Q z) : XQ Q M M1 := by
  have f : FK (fun z => z == 14) M M1 := FK_ex hx (fun z _ hz => by rw [AQ_mo hS (hZ z hz)]; rfl)
  exact ⟨f.mono (mo1 rfl), fun z _ _ => ⟨fun i => hx.rR z i, fun hq i => hx.1 z (fun y => hq (hZ z y)) i⟩⟩
theorem QE_pre (hx : XQ Q M M1) (h : QE r M1 m al N pa own sd ps sn pu rf tm lf b0 eg tk pb as nb Q t Y') : QE r M m al N pa own sd ps sn pu rf tm lf b0 eg tk pb as nb Q t Y' := by
  obtain ⟨M', h', lf', mn', fa', b0', a1, a2, a3, a4⟩ := h
  exact ⟨M', h', lf', mn', fa', b0', a1, a2, hx.trans a3, a4⟩
/-- a query ends with its list -/
theorem c_fin (hC : CB M m al N pa own sd ps sn pu rf tm lf b0 eg tk pb as nb mn fa Y h) (hS : AsS M Q) (hL : AsL M Q (qL (yq Y) t)) (hk : okL (qL (yq Y) t)) (hmn : ∀ r, r < nb → mn r = yv Y 269 r) (hrec : recY nb Y) (hh : hdW N Y t) (ht : t < 12) (hlf : lf t + 1 < 2147483648) (hk3 : yv Y 227 t = 3) : QE (f_X31_finish (Q : Int) ((wa pa t : Nat) : Int) M) M m al N pa own sd ps sn pu rf tm lf b0 eg tk pb as nb Q t (rnkY t Y) := by
  obtain ⟨M', fa', e1, e2, U, e3, e4⟩ := c_finish hC hS hL hk hrec hh ht hlf hk3
  have hgo : yv Y 226 t ≠ 0 := by rw [hh.1]; decide
  have r0 := (hrec.2 t ht hgo).1
  have c0 : yv (rnkY t Y) 226 t = 0 := clS_0
  refine ⟨M', h, _, _, fa', _, e1, e2, XQ.trans (XQ_ex hS e3 (fun z hz => by unfold RA at hz; unfold AQs; omega)) (XQ_fk e4 (mo2 ⟨rfl, rfl⟩) rfl), fun z => absurd c0 z, LfS_1, fun r hr => ?_, Or.inr ⟨rfl, c0, ht⟩⟩
  have e9 : ∀ r, yv (rnkY t Y) 269 r = if r = (yv Y 229 t).toNat then ((((srt rkM (qL (yq Y) t)).take 60).length : Nat) : Int) else yv Y 269 r := fun r => by
    show vI (clS t 1 (st2 (ys Y) 269 (yv Y 229 t).toNat ((((srt rkM (qL (yq Y) t)).take 60).length : Nat) : Int))) 269 r = _
    rw [clS_ne (by omega) (by omega), vI_st2]
    by_cases c : r = (yv Y 229 t).toNat
    · rw [if_pos ⟨rfl, c⟩, if_pos c]
      exact w32s (by rw [List.length_take]; omega)
    · rw [if_neg (fun z => c z.2), if_neg c]
  rw [e9]
  unfold fup
  by_cases c : r = (yv Y 229 t).toNat
  · rw [if_pos c, if_pos c]
  · rw [if_neg c, if_neg c]; exact hmn r hr
/-- the term whose holder is asked -/
theorem q_idx (hq : qOK own Y t) (hF : AsF M Q (ys Y) (yq Y) t) : (qO (yq Y) t).getD (qI Y t) 0 < 3 ∧ (((qO (yq Y) t).getD (qI Y t) 0 : Nat) : Int) < yv Y 247 t ∧ qI Y t < 3 ∧ rI M (Q + 5) (qI Y t) = (((qO (yq Y) t).getD (qI Y t) 0 : Nat) : Int) ∧ rI M (Q + 4) ((qO (yq Y) t).getD (qI Y t) 0) = yv Y 250 (qQ Y t) ∧ ky (kC M (Q + 21 + 4 * (qO (yq Y) t).getD (qI Y t) 0)) = qH (yq Y) (qQ Y t) ∧ ky (kC M (Q + 19 + 4 * (qO (yq Y) t).getD (qI Y t) 0)) = qK (yq Y) (qQ Y t) := by
  have i1 := qI_lt hq
  have n3 := hq.1
  have ol := hq.2.2.1.1
  have y1 : (((qO (yq Y) t).getD (qI Y t) 0 : Nat) : Int) < yv Y 247 t := hq.2.2.1.2 _ (getD_mem (by omega))
  have s1 : yv Y 230 t ≠ 1 := by have := hq.2.1; omega
  obtain ⟨a1, a2, a3, a4, a5⟩ := hF
  obtain ⟨b1, b2, b3⟩ := a3 ((qO (yq Y) t).getD (qI Y t) 0) (by omega) (by rw [if_neg (show ¬ vI (ys Y) 230 t = 1 from s1)]; exact y1)
  exact ⟨by omega, y1, by omega, (a5 s1).1 _ i1, b1, b2, a2 _ y1⟩
/-- a holder elsewhere is asked -/
theorem c_consR (hC : CB M m al N pa own sd ps sn pu rf tm lf b0 eg tk pb as nb mn fa Y h) (hS : AsS M Q) (hF : AsF M Q (ys Y) (yq Y) t) (hmn : ∀ r, r < nb → mn r = yv Y 269 r) (hrec : recY nb Y) (hok : okW N own tm (yw Y)) (hh : hdW N Y t) (ht : t < 12) (hlf : lf t + 1 < 2147483648) (hk3 : yv Y 227 t = 3) (hq : qOK own Y t) (hd : dtW t (yw Y) = yw Y) (hty : ty = 9 ∨ ty = 11 ∨ ty = 13) (hpk : PkC M 31 (hdB ty 0 (kf (own (yp Y t))) ++ bd)) (hr : qH (yq Y) (qQ Y t) ≠ own (yp Y t)) :
    QE (f_X31_consult R (Q : Int) ((wa pa t : Nat) : Int) (((qO (yq Y) t).getD (qI Y t) 0 : Nat) : Int) M) M m al N pa own sd ps sn pu rf tm lf b0 eg tk pb as nb Q t (askQ N own sd tm t ty bd Y) := by
  have hgo : yv Y 226 t ≠ 0 := by rw [hh.1]; decide
  obtain ⟨y3, y1, i3, x5, x4, xh, xk⟩ := q_idx hq hF
  obtain ⟨y, hy⟩ : ∃ y, y = (qO (yq Y) t).getD (qI Y t) 0 := ⟨_, rfl⟩
  rw [← hy] at y3 y1 x5 x4 xh xk ⊢
  have hu := hC.2.1.1
  obtain ⟨w1, _⟩ := hC.2.1.2.2.1 t (by omega)
  obtain ⟨g1, _⟩ := (hC.2.2.1 t (by omega)).2.2.2 hgo
  have pN := yp_lt hh
  have pe := hC.1.2.2.2.2.1.2.2 (yp Y t) pN
  have g1 : rR M (wa pa t) 2 = ((pa (yp Y t) : Nat) : Int) := g1
  have kp : isK M (pa (yp Y t) + 1) := pe.1.2.2.2.2.1
  obtain ⟨e0, e1, e2, e3, e4, e5⟩ := hS.2.2.2.2.2 y y3
  have hrc := rc_ok hrec hh
  have k31 : (kd M Q).1 = 31 := by rw [hS.1]
  have had : 0 ≤ yv Y 250 (qQ Y t) ∧ yv Y 250 (qQ Y t) < 32 := by
    have := hq.2.2.2.2.1 y y1
    unfold qQ; rw [← hy]; exact this
  have ko := (hok.2.2.2 (yp Y t) pN).1
  have is : f_X3_is ((Q + 21 + 4 * y : Nat) : Int) ((pa (yp Y t) + 1 : Nat) : Int) M = some 0 := by
    rw [e_X3_is e5 kp, ← kc_ky, xh, pe.2.2.1]
    have := kc_160 (x := qH (yq Y) (qQ Y t)) (y := own (yp Y t)) (by rw [← xh]; exact kyo_ky (kC_ok _ _)) ko
    rw [if_neg (fun z => hr (this.mp z))]
  have m14 := AsS_mo hS
  have mk1 : mo M (Q + 21 + 4 * y) = 14 := by rw [show Q + 21 + 4 * y = Q + (21 + 4 * y) from by omega]; exact m14 _ (by omega)
  have mk2 : mo M (Q + 21 + 4 * y + 1) = 14 := by rw [show Q + 21 + 4 * y + 1 = Q + (22 + 4 * y) from by omega]; exact m14 _ (by omega)
  obtain ⟨M2, h2, a1, a2, a3⟩ := c_askW (x4 := 1) (ad := yv Y 250 (qQ Y t)) (ty := ty) (bd := bd) (kx := Q + 21 + 4 * y) hC hok (by omega) hgo pN hrc e5 ⟨⟨by rw [mk1]; decide, by rw [mk2]; decide⟩, by rw [mk1]; decide, by rw [mk2]; decide⟩ hpk (by omega) had (by rw [if_neg (by omega)])
  rw [xh] at a1 a2
  have S2 : AsS M2 Q := hS.exa a3 hu (fun z hz y => by
    have y : (fun z => z == 1 || z == 5 || z == 11) (mo M z) = true := y
    rw [AQ_mo hS hz] at y; exact absurd y (by decide))
  obtain ⟨ok, hok0⟩ : ∃ ok, ok = (askY N own sd tm (yw Y) (yp Y t) (yv Y 250 (qQ Y t)) ty (qH (yq Y) (qQ Y t)) bd (some t) none).2 := ⟨_, rfl⟩
  obtain ⟨Y1, hY1⟩ : ∃ Y1 : Ys, Y1 = ((askY N own sd tm (yw Y) (yp Y t) (yv Y 250 (qQ Y t)) ty (qH (yq Y) (qQ Y t)) bd (some t) none).1, yl Y, raS t (ys Y), yq Y) := ⟨_, rfl⟩
  rw [← hok0] at a1
  rw [← hY1] at a2
  have v : ∀ a i, a ≠ 268 → yv Y1 a i = yv Y a i := fun a i z => by rw [hY1]; exact raS_ne z
  have eq1 : yq Y1 = yq Y := by rw [hY1]
  have hl := AsS_lt hu hS
  have F2 : AsF M2 Q (ys Y1) (yq Y1) t := AsF_ag hF S2 (fun z i hz => (a3.cell (by unfold AQs at hz; omega) (by rw [AQ_mo hS hz]; rfl)).1 i) (fun a z => v a t (by omega)) (fun i _ => ⟨v _ _ (by omega), v _ _ (by omega)⟩) hq.1.2 (by rw [eq1]; exact ⟨rfl, rfl, rfl, rfl⟩) (fun i _ => by rw [eq1]; exact ⟨rfl, rfl⟩)
  have fT : FT t Y Y1 := by
    rw [hY1]
    exact ⟨FTw_ask (Or.inl rfl), fun _ _ => rfl, FTs_ra rfl, ⟨raS_ne (by decide), raS_ne (by decide), raS_ne (by decide)⟩, .refl⟩
  have X2 : XQ Q M M2 := XQ_fk a3 (mo3 ⟨rfl, rfl, rfl⟩) rfl
  have eA : askQ N own sd tm t ty bd Y = if ok = true then Y1 else clY t 2 Y1 := by
    unfold askQ
    rw [hd, ← hok0, ← hY1]
  have k17 : (kd M (pa (yp Y t))).1 = 17 := by rw [pe.1.1]
  have fa1 : f_X11_ask ((wa pa t : Nat) : Int) ((Q + 21 + 4 * y : Nat) : Int) (yv Y 250 (qQ Y t)) M = some (b2i ok, M2) := by
    unfold f_X11_ask
    rw [ck_e w1.1, a1, Option.bind_some, bz_e (by cases ok; exact Or.inl rfl; exact Or.inr rfl)]
  have run : f_X31_consult R (Q : Int) ((wa pa t : Nat) : Int) (y : Int) M = if ok = true then some M2 else (f_X11_end ((wa pa t : Nat) : Int) 2 M2).bind fun M1 => some M1 := by
    unfold f_X31_consult j_X31_consult_74
    rw [gfr_e k31, hS.2.1.2.1, Option.bind_some, lar_n hS.2.2.1.2.1 (by decide) y3 (by decide), e3, Option.bind_some, gfr_e w1.1, g1, Option.bind_some, gfr_e k17, pe.1.2.2.1.2.1, Option.bind_some, ck_e e5.1, is, Option.bind_some, if_pos (by decide), Option.bind_some, lar_n hS.2.2.1.2.1 (by decide) y3 (by decide), e3, Option.bind_some, gfr_e k31, hS.2.1.2.2.2.1, Option.bind_some, lai_e (k := 672) (l := 3) (j := y) hS.2.2.1.2.2.2.1 (by decide) (by decide) (w32_nn (by omega)) y3, x4, Option.bind_some, ck_e w1.1, fa1, Option.bind_some]
    dsimp only
    rw [w32_b2i]
    cases ok with
    | true => rw [if_neg (by decide), if_pos rfl]
    | false =>
      rw [if_pos (by decide), if_neg (by decide), ck_e (by rw [S2.1])]
      unfold f_X31_failed
      rw [ck_e (a2.2.1.2.2.1 t (by omega)).1.1]
      cases f_X11_end ((wa pa t : Nat) : Int) 2 M2 <;> rfl
  rw [run, eA]
  cases hb : ok with
  | true =>
    rw [if_pos rfl, if_pos rfl]
    exact ⟨M2, h2, lf, mn, fa, b0, rfl, a2, X2, fun _ => F2, .refl, fun r hr => by rw [v _ _ (by decide)]; exact hmn r hr, Or.inl rfl⟩
  | false =>
    rw [if_neg (by decide), if_neg (by decide)]
    have go1 : yv Y1 226 t ≠ 0 := by rw [v _ _ (by decide)]; exact hgo
    obtain ⟨M3, d1, d2, d3⟩ := c_end (how := 2) a2 (t := t) (by omega) go1 (by rw [v _ _ (by decide)]; exact hrc) (Or.inl (by decide)) (by decide) hlf
    refine ⟨M3, h2, _, mn, fa, b0, by rw [d1, Option.bind_some], d2, X2.trans (XQ_fk d3 (mo2 ⟨rfl, rfl⟩) rfl), fun z => absurd clS_0 z, LfS_1, fun r hr => ?_, Or.inl rfl⟩
    rw [show yv (clY t 2 Y1) 269 r = yv Y1 269 r from clS_ne (by omega) (by omega), v _ _ (by decide)]
    exact hmn r hr
end CQE
