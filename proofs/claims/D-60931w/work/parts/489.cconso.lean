/-! a query of the class asks its own peer -/
section CCONSO
variable {S : Nat → Bool} {M M1 M2 : MM} {m al N p t nb n Q pk k : Nat} {pa tk : Nat → Nat} {own : Nat → Ky} {sd ps sn pu rf : Nat → Int} {tm how : Int} {lf : Nat → Nat} {b0 : Nat × Nat} {h : Gh} {eg : EG} {pb as : Nat → Option Nat} {mn : Nat → Int} {fa : Nat → Nat} {Y Y1 Yf : Ys} {l l' : List Int} {R : Nat → Int → Int → Int → MM → Option MM}
theorem c_consO (hC : CB M m al N pa own sd ps sn pu rf tm lf b0 eg tk pb as nb mn fa Y h) (hS : AsS M Q) (hF : AsF M Q (ys Y) (yq Y) t) (hok : okW N own tm (yw Y)) (hh : hdW N Y t) (ht : t < 12) (hq : qOK own Y t) (hst : okSt (wS (yw Y) (yp Y t))) (o : qH (yq Y) (qQ Y t) = own (yp Y t)) (hd : dtW t (yw Y) = yw Y) (hpk : PkC M 31 l) (hl : l = hdB (tyQ Y t) 0 (kf (own (yp Y t))) ++ bdQ Y t) (hl' : l' = ansB m (wst (yw Y) 9).toNat (own (yp Y t)) none (wT (yw Y) (yp Y t)) (wS (yw Y) (yp Y t)) l)
    (cont : ∀ M2 h2, CB M2 m al N pa own sd ps sn pu rf tm lf b0 eg tk pb as nb mn fa Y h2 → AsS M2 Q → AsF M2 Q (ys Y) (yq Y) t → PkC M2 33 l' → QE (R 0 (Q : Int) ((wa pa t : Nat) : Int) ((33 : Nat) : Int) M2) M2 m al N pa own sd ps sn pu rf tm lf b0 eg tk pb as nb Q t Yf) :
    QE (f_X31_consult R (Q : Int) ((wa pa t : Nat) : Int) (((qO (yq Y) t).getD (qI Y t) 0 : Nat) : Int) M) M m al N pa own sd ps sn pu rf tm lf b0 eg tk pb as nb Q t Yf := by
  have hgo : yv Y 226 t ≠ 0 := by rw [hh.1]; decide
  obtain ⟨y3, y1, i3, x5, x4, xh, xk⟩ := q_idx hq hF
  have hkk : kyo (qK (yq Y) (qQ Y t)) := by rw [← xk]; exact kyo_ky (kC_ok _ _)
  obtain ⟨wl, isb, hty, _, _⟩ := qon_own (m := m) (N := N) (sd := sd) (tm := tm) hq hok.1.2.2.2.2.2.2.2.2.2.1 hst hkk o hd hl hl'
  obtain ⟨y, hy⟩ : ∃ y, y = (qO (yq Y) t).getD (qI Y t) 0 := ⟨_, rfl⟩
  rw [← hy] at y3 y1 x5 x4 xh xk ⊢
  have hu := hC.2.1.1
  have w1 := (hC.2.1.2.2.1 t (by omega)).1
  obtain ⟨g1, _⟩ := (hC.2.2.1 t (by omega)).2.2.2 hgo
  have pN := yp_lt hh
  have pe := hC.1.2.2.2.2.1.2.2 (yp Y t) pN
  have g1 : rR M (wa pa t) 2 = ((pa (yp Y t) : Nat) : Int) := g1
  have kp : isK M (pa (yp Y t) + 1) := pe.1.2.2.2.2.1
  obtain ⟨e0, e1, e2, e3, e4, e5⟩ := hS.2.2.2.2.2 y y3
  have k31 : (kd M Q).1 = 31 := by rw [hS.1]
  have ko := (hok.2.2.2 (yp Y t) pN).1
  have is : f_X3_is ((Q + 21 + 4 * y : Nat) : Int) ((pa (yp Y t) + 1 : Nat) : Int) M = some 1 := by
    rw [e_X3_is e5 kp, ← kc_ky, xh, pe.2.2.1]
    have := kc_160 (x := qH (yq Y) (qQ Y t)) (y := own (yp Y t)) (by rw [← xh]; exact kyo_ky (kC_ok _ _)) ko
    rw [if_pos (this.mpr o)]
  have k17 : (kd M (pa (yp Y t))).1 = 17 := by rw [pe.1.1]
  have bd := hC.1.1.1
  have k6 : (kd M 18).1 = 6 := by rw [bd.1]
  obtain ⟨M2, h2, a1, a2, a3, a4⟩ := cp_answers (x := 31) (x2 := -1) (wo := none) hC.1 hok pN (Or.inr rfl) hpk isb wl (by omega) (Or.inl ⟨rfl, rfl⟩)
  have aw : ansW tm (yw Y) (yp Y t) l = (yw Y, true) := by unfold ansW; rw [if_neg (by omega)]
  rw [aw] at a1 a2 a3
  have a3 := a3 rfl
  rw [← hl'] at a3
  have f2 : FK (fun z => z == 3 || z == 5 || z == 7) M M2 := FK_exa a4 (fun z _ hz => by
    rcases hz with e | e | e
    · rw [e]; rfl
    · rw [e]; rfl
    · rw [aq_mo bd e]; rfl)
  have C2 : CB M2 m al N pa own sd ps sn pu rf tm lf b0 eg tk pb as nb mn fa Y h2 := CB_w hC a2 (LksC_fk f2 (by decide) hC.2.1) f2 (by decide)
  have S2 : AsS M2 Q := hS.exa f2 hu (fun z hz y => by
    have y : (fun z => z == 3 || z == 5 || z == 7) (mo M z) = true := y
    rw [AQ_mo hS hz] at y; exact absurd y (by decide))
  have hlt := AsS_lt hu hS
  have F2 : AsF M2 Q (ys Y) (yq Y) t := AsF_ag hF S2 (fun z i hz => (f2.cell (by unfold AQs at hz; omega) (by rw [AQ_mo hS hz]; rfl)).1 i) (fun _ _ => rfl) (fun _ _ => ⟨rfl, rfl⟩) hq.1.2 ⟨rfl, rfl, rfl, rfl⟩ (fun _ _ => ⟨rfl, rfl⟩)
  have g := cont M2 h2 C2 S2 F2 a3
  have bd2 := C2.1.1.1
  have w2 := (C2.2.1.2.2.1 t (by omega)).1
  have k6' : (kd M2 18).1 = 6 := by rw [bd2.1]
  have run : f_X31_consult R (Q : Int) ((wa pa t : Nat) : Int) (y : Int) M = (R 0 (Q : Int) ((wa pa t : Nat) : Int) ((33 : Nat) : Int) M2).bind fun M3 => some M3 := by
    unfold f_X31_consult j_X31_consult_74
    rw [gfr_e k31, hS.2.1.2.1, Option.bind_some, lar_n hS.2.2.1.2.1 (by decide) y3 (by decide), e3, Option.bind_some, gfr_e w1.1, g1, Option.bind_some, gfr_e k17, pe.1.2.2.1.2.1, Option.bind_some, ck_e e5.1, is, Option.bind_some, if_neg (by decide), Option.bind_some, gfr_e w1.1, w1.2.1.1, Option.bind_some, gfr_e k6, bd.2.2.1.2.2.2.2.2.1, Option.bind_some, ck_e k17, a1, Option.bind_some]
    dsimp only
    rw [gfr_e w2.1, w2.2.1.1, Option.bind_some, gfr_e k6', bd2.2.2.1.2.2.2.2.2.2.1, Option.bind_some, ck_e (by rw [S2.1])]
  rw [run]
  exact QE_pre (XQ_fk f2 (mo3 ⟨rfl, rfl, rfl⟩) rfl) (QE_b1 g)
end CCONSO
