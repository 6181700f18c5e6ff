/-! a query of the class lists -/
section CLISTW
variable {S : Nat → Bool} {M M1 M2 : MM} {m al N p t nb n Q pk k : Nat} {pa tk : Nat → Nat} {own : Nat → Ky} {sd ps sn pu rf : Nat → Int} {tm how : Int} {lf : Nat → Nat} {b0 : Nat × Nat} {h : Gh} {eg : EG} {pb as : Nat → Option Nat} {mn : Nat → Int} {fa : Nat → Nat} {Y Y1 Yf : Ys} {l l' : List Int} {R : Nat → Int → Int → Int → MM → Option MM}
theorem AQ_31 (hb : BdS M m) (hS : AsS M Q) : (¬ AQs Q 31 ∧ ¬ AQs Q 32) ∧ ¬ AQs Q 33 ∧ ¬ AQs Q 34 := by
  obtain ⟨_, _, _, _, ⟨o5, o6⟩, ⟨o7, o8⟩, _⟩ := BdS_mo hb
  refine ⟨⟨fun z => ?_, fun z => ?_⟩, fun z => ?_, fun z => ?_⟩
  · have := AQ_mo hS z; rw [o5] at this; exact absurd this (by decide)
  · have := AQ_mo hS z; rw [o6] at this; exact absurd this (by decide)
  · have := AQ_mo hS z; rw [o7] at this; exact absurd this (by decide)
  · have := AQ_mo hS z; rw [o8] at this; exact absurd this (by decide)
/-- what is put into the packet is nothing to a query -/
theorem PQ_31 (hC : CB M m al N pa own sd ps sn pu rf tm lf b0 eg tk pb as nb mn fa Y h) (hS : AsS M Q) (hF : AsF M Q (ys Y) (yq Y) t) (h3 : yv Y 247 t ≤ 3) (hx : Ex (fun z => z = 31 ∨ z = 32) M M1) : CB M1 m al N pa own sd ps sn pu rf tm lf b0 eg tk pb as nb mn fa Y h ∧ AsS M1 Q ∧ AsF M1 Q (ys Y) (yq Y) t ∧ XQ Q M M1 := by
  obtain ⟨_, _, _, _, ⟨o5, o6⟩, _⟩ := BdS_mo hC.1.1.1
  obtain ⟨⟨q1, q2⟩, _⟩ := AQ_31 hC.1.1.1 hS
  obtain ⟨C1, f1⟩ := CB_7 hC hx (by omega) (fun z _ hz => by rcases hz with e | e <;> rw [e]; exact o5; exact o6)
  have S1 : AsS M1 Q := hS.ex hx
  exact ⟨C1, S1, AsF_ag hF S1 (fun z i hz => hx.1 z (fun y => by rcases y with e | e; exact q1 (e ▸ hz); exact q2 (e ▸ hz)) i) (fun _ _ => rfl) (fun _ _ => ⟨rfl, rfl⟩) h3 ⟨rfl, rfl, rfl, rfl⟩ (fun _ _ => ⟨rfl, rfl⟩), XQ_fk f1 (mo1 rfl) rfl⟩
theorem c_list52 (hC : CB M m al N pa own sd ps sn pu rf tm lf b0 eg tk pb as nb mn fa Y h) (hS : AsS M Q) (hF : AsF M Q (ys Y) (yq Y) t) (hh : hdW N Y t) (ht : t < 12) (hq : qOK own Y t) (h4 : yv Y 230 t = 4) (s9 : 1 ≤ wst (yw Y) 9 ∧ wst (yw Y) 9 ≤ 8) (hfl : FltC M (Q + 14) (hsQ Y t).toNat (qB (yq Y) t)) :
    ∃ M', j_X31_list_52 R (Q : Int) ((wa pa t : Nat) : Int) (((qO (yq Y) t).getD (qI Y t) 0 : Nat) : Int) M = ((R 3 (Q : Int) ((wa pa t : Nat) : Int) (((qO (yq Y) t).getD (qI Y t) 0 : Nat) : Int) M').bind fun M4 => some M4) ∧ CB M' m al N pa own sd ps sn pu rf tm lf b0 eg tk pb as nb mn fa Y h ∧ AsS M' Q ∧ AsF M' Q (ys Y) (yq Y) t ∧ PkC M' 31 (hdB (tyQ Y t) 0 (kf (own (yp Y t))) ++ bdQ Y t) ∧ XQ Q M M' := by
  have hgo : yv Y 226 t ≠ 0 := by rw [hh.1]; decide
  obtain ⟨y3, y1, i3, x5, x4, xh, xk⟩ := q_idx hq hF
  obtain ⟨y, hy⟩ : ∃ y, y = (qO (yq Y) t).getD (qI Y t) 0 := ⟨_, rfl⟩
  rw [← hy] at y3 y1 x5 x4 xh xk ⊢
  have w1 := (hC.2.1.2.2.1 t (by omega)).1
  obtain ⟨g1, _⟩ := (hC.2.2.1 t (by omega)).2.2.2 hgo
  have g1 : rR M (wa pa t) 2 = ((pa (yp Y t) : Nat) : Int) := g1
  have pN := yp_lt hh
  have pe := hC.1.2.2.2.2.1.2.2 (yp Y t) pN
  have k17 : (kd M (pa (yp Y t))).1 = 17 := by rw [pe.1.1]
  have k31 : (kd M Q).1 = 31 := by rw [hS.1]
  obtain ⟨e0, e1, e2, e3, e4, e5⟩ := hS.2.2.2.2.2 y y3
  obtain ⟨⟨q1, q2⟩, _⟩ := AQ_31 hC.1.1.1 hS
  have okb := hq.2.2.2.2.2.2.1
  have okb1 := okb.1
  have rh : 1 ≤ hsQ Y t ∧ hsQ Y t ≤ 8 := by
    unfold hsQ
    by_cases d : yv Y 247 t = 1
    · rw [if_pos d]; exact s9
    · rw [if_neg d]; exact hq.2.2.2.2.2.2.2.1 (by have := hq.1; omega) (by omega)
  have i14 : rI M Q 14 = yv Y 254 t := (hF.2.2.2.2 (by rw [show vI (ys Y) 230 t = 4 from h4]; decide)).2.2.1
  obtain ⟨M1, a1, a2, a3, a4⟩ := cp_begin (ty := 11) hC.1 pN
  have ne : ∀ z, AQs Q z → ¬ (z = 31 ∨ z = 32) := fun z hz y => by rcases y with e | e; exact q1 (e ▸ hz); exact q2 (e ▸ hz)
  obtain ⟨M2, b1, b2, b3⟩ := e_X4_putKey a3 (e2.ex a4) (by rw [hdB_len]; omega)
  have kcw : kC M1 (Q + 19 + 4 * y) = kC M (Q + 19 + 4 * y) := by funext i; exact a4.rI (ne _ (by unfold AQs; omega)) i
  rw [kcw, kby_ky, xk] at b2
  have x2 : Ex (fun z => z = 31 ∨ z = 32) M M2 := a4.trans b3
  obtain ⟨M3, c1, c2, c3⟩ := e_X4_put (n := 2) (v := yv Y 254 t) b2 (by omega) (by rw [List.length_append, hdB_len, kbs_len]; omega)
  have x3 : Ex (fun z => z = 31 ∨ z = 32) M M3 := x2.trans c3
  have hfl3 : FltC M3 (Q + 14) (hsQ Y t).toNat (qB (yq Y) t) := hfl.ex x3 (ne _ (by unfold AQs; omega)) (ne _ (by unfold AQs; omega))
  obtain ⟨M4, d1, d2, d3⟩ := c_fwrite hfl3 c2 (by omega) (by rw [List.length_append, List.length_append, hdB_len, kbs_len, be_len]; omega)
  have x4 : Ex (fun z => z = 31 ∨ z = 32) M M4 := x3.trans d3
  obtain ⟨C4, S4, F4, X4⟩ := PQ_31 hC hS hF hq.1.2 x4
  refine ⟨M4, ?_, C4, S4, F4, ?_, X4⟩
  · have k4 : ∀ U, Ex (fun z => z = 31 ∨ z = 32) M U → (kd U 31).1 = 4 := fun U hU => by rw [hU.kd, BdS_31 hC.1.1.1]
    have kU : ∀ U, Ex (fun z => z = 31 ∨ z = 32) M U → (kd U Q).1 = 31 := fun U hU => by rw [hU.kd]; exact k31
    unfold j_X31_list_52
    rw [gfr_e w1.1, g1, Option.bind_some, ck_e k17, a1, Option.bind_some]
    dsimp only
    rw [gfr_e (kU _ a4), a4.rR, hS.2.1.1, Option.bind_some, lar_n (show kd M1 (Q + 1) = (637, 3) from by rw [a4.kd]; exact hS.2.2.1.1) (by decide) y3 (by decide), a4.rR, e0, Option.bind_some, ck_e (k4 _ a4), b1, Option.bind_some, gfi_e (kU _ x2), x2.rI (ne _ (by unfold AQs; omega)), i14, Option.bind_some, ck_e (k4 _ x2), show f_X4_put ((31 : Nat) : Int) (yv Y 254 t) 2 M2 = some M3 from c1, Option.bind_some, gfr_e (kU _ x3), x3.rR, hS.2.1.2.2.2.2.2.2.2.2.2.2, Option.bind_some, ck_e (by rw [x3.kd]; exact hS.2.2.2.2.1.1.1), d1, Option.bind_some, ck_e (kU _ x4)]
  · have e : hdB (tyQ Y t) 0 (kf (own (yp Y t))) ++ bdQ Y t = hdB 11 0 (kf (own (yp Y t))) ++ kbs (qK (yq Y) (qQ Y t)) ++ be (yv Y 254 t) 2 ++ ((((hsQ Y t).toNat : Nat) : Int) :: be (((qB (yq Y) t).length : Nat) : Int) 2) ++ qB (yq Y) t := by
      unfold tyQ bdQ
      rw [h4, if_neg (show ¬ (4 : Int) = 3 from by decide), if_neg (show ¬ (4 : Int) = 3 from by decide), if_pos rfl, if_pos rfl, show (((hsQ Y t).toNat : Nat) : Int) = hsQ Y t from by omega]
      simp only [List.append_assoc]
    rw [e]; exact d2
theorem c_listW (hP : PQ M m al N pa own sd ps sn pu rf tm lf b0 eg tk pb as nb mn fa Q t Y h) (hok : okW N own tm (yw Y)) (hh : hdW N Y t) (ht : t < 12) (hq : qOK own Y t) (h4 : yv Y 230 t = 4) :
    ∃ M', f_X31_list R (Q : Int) ((wa pa t : Nat) : Int) M = ((R 3 (Q : Int) ((wa pa t : Nat) : Int) (((qO (yq Y) t).getD (qI Y t) 0 : Nat) : Int) M').bind fun M4 => some M4) ∧ CB M' m al N pa own sd ps sn pu rf tm lf b0 eg tk pb as nb mn fa Y h ∧ AsS M' Q ∧ AsF M' Q (ys Y) (yq Y) t ∧ PkC M' 31 (hdB (tyQ Y t) 0 (kf (own (yp Y t))) ++ bdQ Y t) ∧ XQ Q M M' := by
  obtain ⟨hC, hS, hF, _⟩ := hP
  rw [show yv Y 230 t - 3 = 1 from by rw [h4]; rfl] at hF
  have s9 : 1 ≤ wst (yw Y) 9 ∧ wst (yw Y) 9 ≤ 8 := hok.1.2.2.2.2.2.2.2.2.2.1
  have k31 : (kd M Q).1 = 31 := by rw [hS.1]
  have n3 := hq.1
  obtain ⟨U, hU⟩ : ∃ U, U = sI M Q 7 1 := ⟨_, rfl⟩
  have xU : Ex (fun z => z = Q) M U := by rw [hU]; exact Ex.st (A := fun z => z = Q) rfl
  rw [← hU] at hF
  have SU : AsS U Q := hS.ex xU
  obtain ⟨CU, _⟩ := CB_14 hC hS xU (fun z hz => by unfold AQs; omega)
  have XU : XQ Q M U := XQ_ex hS xU (fun z hz => by unfold AQs; omega)
  have kU : (kd U Q).1 = 31 := by rw [SU.1]
  have sn1 : vI (ys Y) 230 t ≠ 1 := by rw [show vI (ys Y) 230 t = 4 from h4]; decide
  obtain ⟨b1, b2, b3, b4, b5, b6, b7, b8⟩ := hF.2.2.2.2 sn1
  have qi : qI Y t = if yv Y 247 t = 1 then 0 else 1 := by unfold qI; rw [h4, if_neg (by decide), if_pos rfl]
  by_cases c : yv Y 247 t = 1
  · have o1 : (qO (yq Y) t).getD (qI Y t) 0 = 0 := by
      have a1 := qI_lt hq
      have a2 := hq.2.2.1.1
      have a3 := hq.2.2.1.2 _ (getD_mem (L := qO (yq Y) t) (j := qI Y t) (d := 0) (by omega))
      omega
    have qb := b8 c
    have bd := CU.1.1.1
    have k6 : (kd U 18).1 = 6 := by rw [bd.1]
    have w1 := (CU.2.1.2.2.1 t (by omega)).1
    have NR := CU.1.2.1
    have k7 : (kd U 19).1 = 7 := by rw [NR.1.1]
    obtain ⟨M2, f1, f2, f3⟩ := c_fbegin (n := 0) (h := (wst (yw Y) 9).toNat) SU.2.2.2.2.1.1 (by omega) (by omega)
    have f3' : ∀ z, (z = Q + 14 ∨ z = Q + 14 + 1) → AQs Q z := fun z hz => by unfold AQs; omega
    have S2 : AsS M2 Q := SU.ex f3
    obtain ⟨C2, _⟩ := CB_14 CU SU f3 f3'
    have I : ∀ z i, z ≠ Q + 14 → z ≠ Q + 15 → rI M2 z i = rI U z i := fun z i z1 z2 => f3.rI (by omega) i
    have hsq : hsQ Y t = wst (yw Y) 9 := by unfold hsQ; rw [if_pos c]
    have fl0 : fltL 0 (wst (yw Y) 9).toNat = 0 := by unfold fltL; rw [Nat.zero_mul]
    rw [fl0] at f2
    have F2 : AsF M2 Q (ys Y) (yq Y) t := by
      refine AsF_nx hF n3.2 sn1 sn1 (fun z i hz => ?_) rfl (fun _ _ => ⟨rfl, rfl⟩) ⟨rfl, rfl, rfl⟩ (by rw [I _ _ (by omega) (by omega)]; exact b2) (by rw [I _ _ (by omega) (by omega)]; exact b3) ?_ (by rw [I _ _ (by omega) (by omega)]; exact b5) (fun z => ?_) (fun _ z => ?_) b8
      · rcases hz with ⟨e1, e2⟩ | ⟨j, e1, e2⟩
        · exact I _ _ (by omega) (by omega)
        · exact I _ _ (by omega) (by omega)
      · exact AsL_ex b4 f3 (I _ _ (by omega) (by omega)) ⟨by omega, by omega, by omega⟩
      · exact absurd z (by rw [show vI (ys Y) 230 t = 4 from h4]; decide)
      · exact absurd z (by rw [show vI (ys Y) 247 t = 1 from c]; decide)
    obtain ⟨M', r1, r2, r3, r4, r5, r6⟩ := c_list52 (R := R) C2 S2 F2 hh ht hq h4 s9 (by rw [hsq, qb]; exact f2)
    refine ⟨M', ?_, r2, r3, r4, r5, XU.trans ((XQ_ex SU f3 f3').trans r6)⟩
    rw [o1] at r1 ⊢
    rw [← r1]
    have f1 : f_X10_begin ((Q + 14 : Nat) : Int) 0 (wst (yw Y) 9) U = some M2 := by rw [← f1, show (((wst (yw Y) 9).toNat : Nat) : Int) = wst (yw Y) 9 from by omega]; rfl
    unfold f_X31_list
    rw [pfi_e k31, Option.bind_some, ← hU, gfi_e kU, hF.1, Option.bind_some, if_pos (show w32 (vI (ys Y) 247 t) = w32 1 from by rw [show vI (ys Y) 247 t = 1 from c])]
    unfold j_X31_list_23
    rw [gfi_e kU, hF.1, Option.bind_some, if_pos (show w32 (vI (ys Y) 247 t) = w32 1 from by rw [show vI (ys Y) 247 t = 1 from c]), gfr_e kU, SU.2.1.2.2.2.2.2.2.2.2.2.2, Option.bind_some, gfr_e w1.1, w1.2.1.1, Option.bind_some, gfr_e k6, bd.2.2.1.1, Option.bind_some, ck_e k7, show f_X7_setting ((19 : Nat) : Int) 9 U = some (wst (yw Y) 9) from e_setting (k := 9) NR (by decide), Option.bind_some, ck_e SU.2.2.2.2.1.1.1, f1, Option.bind_some]
    rfl
  · have hsq : hsQ Y t = yv Y 256 t := by unfold hsQ; rw [if_neg c]
    obtain ⟨M', r1, r2, r3, r4, r5, r6⟩ := c_list52 (R := R) CU SU hF hh ht hq h4 s9 (by rw [hsq]; exact b7 (by rw [show vI (ys Y) 230 t = 4 from h4]; decide) (by show 2 ≤ yv Y 247 t; omega))
    refine ⟨M', ?_, r2, r3, r4, r5, XU.trans r6⟩
    rw [← r1]
    have b11 := b1 1 (by show (1 : Int) < yv Y 247 t; omega)
    unfold f_X31_list
    rw [pfi_e k31, Option.bind_some, ← hU, gfi_e kU, hF.1, Option.bind_some, if_neg (show ¬ w32 (yv Y 247 t) = w32 1 from by rw [w32s (v := yv Y 247 t) (by omega)]; exact c), gfr_e kU, SU.2.1.2.2.2.2.1, Option.bind_some, lai_e (k := 688) (l := 3) (j := 1) SU.2.2.1.2.2.2.2.1 (by decide) (by decide) rfl (by decide), b11, Option.bind_some]
    unfold j_X31_list_23
    rw [gfi_e kU, hF.1, Option.bind_some, if_neg (show ¬ w32 (yv Y 247 t) = w32 1 from by rw [w32s (v := yv Y 247 t) (by omega)]; exact c), qi, if_neg c]
end CLISTW
