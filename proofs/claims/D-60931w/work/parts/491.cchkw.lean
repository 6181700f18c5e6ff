/-! a query of the class checks -/
section CCHKW
variable {S : Nat → Bool} {M M1 M2 : MM} {m al N p t nb n Q pk k : Nat} {pa tk : Nat → Nat} {own : Nat → Ky} {sd ps sn pu rf : Nat → Int} {tm how : Int} {lf : Nat → Nat} {b0 : Nat × Nat} {h : Gh} {eg : EG} {pb as : Nat → Option Nat} {mn : Nat → Int} {fa : Nat → Nat} {Y Y1 Yf : Ys} {l l' : List Int} {R : Nat → Int → Int → Int → MM → Option MM}
theorem c_checkW (hP : PQ M m al N pa own sd ps sn pu rf tm lf b0 eg tk pb as nb mn fa Q t Y h) (hh : hdW N Y t) (ht : t < 12) (hq : qOK own Y t) (h5 : yv Y 230 t = 5) :
    ∃ M', f_X31_check R (Q : Int) ((wa pa t : Nat) : Int) M = ((R 3 (Q : Int) ((wa pa t : Nat) : Int) (((qO (yq Y) t).getD (qI Y t) 0 : Nat) : Int) M').bind fun M4 => some M4) ∧ CB M' m al N pa own sd ps sn pu rf tm lf b0 eg tk pb as nb mn fa Y h ∧ AsS M' Q ∧ AsF M' Q (ys Y) (yq Y) t ∧ PkC M' 31 (hdB (tyQ Y t) 0 (kf (own (yp Y t))) ++ bdQ Y t) ∧ XQ Q M M' := by
  obtain ⟨hC0, hS0, hF, _⟩ := hP
  rw [show yv Y 230 t - 3 = 2 from by rw [h5]; rfl] at hF
  have hgo : yv Y 226 t ≠ 0 := by rw [hh.1]; decide
  have k310 : (kd M Q).1 = 31 := by rw [hS0.1]
  have n3 := hq.1
  have n2 := hq.2.2.2.1 (by rw [h5]; decide)
  have okl := hq.2.2.2.2.2.2.2.2.1
  have l200 := okl.1
  obtain ⟨⟨q63, q63'⟩, q64, qfl, qsc⟩ := hq.2.2.2.2.2.2.2.2.2.1 h5
  obtain ⟨U, hU⟩ : ∃ U, U = sI M Q 7 2 := ⟨_, rfl⟩
  have xU : Ex (fun z => z = Q) M U := by rw [hU]; exact Ex.st (A := fun z => z = Q) rfl
  rw [← hU] at hF
  have hS : AsS U Q := hS0.ex xU
  obtain ⟨hC, _⟩ := CB_14 hC0 hS0 xU (fun z hz => by unfold AQs; omega)
  have XU : XQ Q M U := XQ_ex hS0 xU (fun z hz => by unfold AQs; omega)
  have k31 : (kd U Q).1 = 31 := by rw [hS.1]
  have sn1 : vI (ys Y) 230 t ≠ 1 := by rw [show vI (ys Y) 230 t = 5 from h5]; decide
  obtain ⟨b1, b2, b3, b4, b5, b6, b7, b8⟩ := hF.2.2.2.2 sn1
  obtain ⟨b16, _⟩ := b6 h5
  obtain ⟨f, hf⟩ : ∃ f, f = (yv Y 264 t).toNat := ⟨_, rfl⟩
  have hf2 : yv Y 264 t = (f : Int) := by omega
  rw [show vI (ys Y) 264 t = (f : Int) from hf2] at b16
  have i15 : rI U Q 15 = (if yv Y 263 t = 0 then 0 else 1) := by rw [b5, if_pos (show vI (ys Y) 230 t = 5 from h5)]
  obtain ⟨y3, y1, i3, x5, x4, xh, xk⟩ := q_idx hq hF
  have qi : qI Y t = (yv Y 263 t).toNat := by unfold qI; rw [h5, if_neg (by decide), if_neg (by decide)]
  obtain ⟨y, hy⟩ : ∃ y, y = (qO (yq Y) t).getD (qI Y t) 0 := ⟨_, rfl⟩
  rw [← hy] at y3 y1 x5 x4 xh xk ⊢
  have w1 := (hC.2.1.2.2.1 t (by omega)).1
  obtain ⟨g1, _⟩ := (hC.2.2.1 t (by omega)).2.2.2 hgo
  have g1 : rR U (wa pa t) 2 = ((pa (yp Y t) : Nat) : Int) := g1
  have pN := yp_lt hh
  have pe := hC.1.2.2.2.2.1.2.2 (yp Y t) pN
  have k17 : (kd U (pa (yp Y t))).1 = 17 := by rw [pe.1.1]
  obtain ⟨e0, e1, e2, e3, e4, e5⟩ := hS.2.2.2.2.2 y y3
  obtain ⟨⟨q1, q2⟩, _⟩ := AQ_31 hC.1.1.1 hS
  have ne : ∀ z, AQs Q z → ¬ (z = 31 ∨ z = 32) := fun z hz y => by rcases y with e | e; exact q1 (e ▸ hz); exact q2 (e ▸ hz)
  obtain ⟨cl, hcl⟩ : ∃ cl, cl = chQ Y t := ⟨_, rfl⟩
  have cle : cl = ((qL (yq Y) t).drop f).take 30 := by rw [hcl, hf]; rfl
  have cn : cl.length = min 30 ((qL (yq Y) t).length - f) := by rw [cle, List.length_take, List.length_drop]
  have cg : ∀ j, j < cl.length → cl.getD j it0 = (qL (yq Y) t).getD (f + j) it0 := fun j hj => by
    rw [cle, List.getD_eq_getElem?_getD, List.getElem?_take, if_pos (by omega), List.getElem?_drop, ← List.getD_eq_getElem?_getD]
  obtain ⟨M1, a1, a2, a3, a4⟩ := cp_begin (ty := 13) hC.1 pN
  obtain ⟨M2, p1, p2, p3⟩ := e_X4_putKey a3 (e2.ex a4) (by rw [hdB_len]; omega)
  have kcw : kC M1 (Q + 19 + 4 * y) = kC U (Q + 19 + 4 * y) := by funext i; exact a4.rI (ne _ (by unfold AQs; omega)) i
  rw [kcw, kby_ky, xk] at p2
  have x2 : Ex (fun z => z = 31 ∨ z = 32) U M2 := a4.trans p3
  obtain ⟨M3, c1, c2, c3⟩ := e_X4_put (n := 1) (v := ((cl.length : Nat) : Int)) p2 (by omega) (by rw [List.length_append, hdB_len, kbs_len]; omega)
  have x3 : Ex (fun z => z = 31 ∨ z = 32) U M3 := x2.trans c3
  rw [be1 (by omega)] at c2
  have k4 : ∀ W, Ex (fun z => z = 31 ∨ z = 32) U W → (kd W 31).1 = 4 := fun W hW => by rw [hW.kd, BdS_31 hC.1.1.1]
  have kU : ∀ W, Ex (fun z => z = 31 ∨ z = 32) U W → (kd W Q).1 = 31 := fun W hW => by rw [hW.kd]; exact k31
  obtain ⟨H, hH⟩ : ∃ H, H = hdB 13 0 (kf (own (yp Y t))) ++ kbs (qK (yq Y) (qQ Y t)) ++ [((cl.length : Nat) : Int)] := ⟨_, rfl⟩
  have Hl : H.length = 46 := by rw [hH, List.length_append, List.length_append, hdB_len, kbs_len]; rfl
  rw [← hH] at c2
  have loop : ∀ (d j fu : Nat) (W : MM), d + j = cl.length → d < fu → PkC W 31 (H ++ (cl.take j).flatMap (fun z => [z.1, z.2.1])) → Ex (fun z => z = 31 ∨ z = 32) U W → ∃ W', lpN (fun s : Int × MM => b_X31_check_72 R (Q : Int) ((wa pa t : Nat) : Int) (y : Int) ((31 : Nat) : Int) ((cl.length : Nat) : Int) s.1 s.2) fu (((f + j : Nat) : Int), W) = j_X31_check_114 R (Q : Int) ((wa pa t : Nat) : Int) (y : Int) W' ∧ PkC W' 31 (H ++ cl.flatMap (fun z => [z.1, z.2.1])) ∧ Ex (fun z => z = 31 ∨ z = 32) U W' := by
    intro d
    induction d with
    | zero =>
      intro j fu W hj hfu hW hE
      have : j = cl.length := by omega
      subst this
      rw [List.take_length] at hW
      refine ⟨W, lpN_end (by omega) ?_, hW, hE⟩
      show b_X31_check_72 R (Q : Int) ((wa pa t : Nat) : Int) (y : Int) ((31 : Nat) : Int) ((cl.length : Nat) : Int) ((f + cl.length : Nat) : Int) W = _
      unfold b_X31_check_72
      rw [gfi_e (kU _ hE), hE.rI (ne _ (by unfold AQs; omega)), b16, Option.bind_some, w32_nn (by omega), show (f : Int) + ((cl.length : Nat) : Int) = ((f + cl.length : Nat) : Int) from by omega, w32_nn (by omega), if_neg (by omega)]
    | succ d ih =>
      intro j fu W hj hfu hW hE
      obtain ⟨fu', rfl⟩ : ∃ f, fu = f + 1 := ⟨fu - 1, by omega⟩
      obtain ⟨z, hz⟩ : ∃ z, z = cl.getD j it0 := ⟨_, rfl⟩
      have zL : z = (qL (yq Y) t).getD (f + j) it0 := by rw [hz]; exact cg j (by omega)
      obtain ⟨g6, g7, _⟩ := b4.2.2 (f + j) (by omega)
      rw [← zL] at g6 g7
      have zr := okL_rg okl (i := f + j) (by omega)
      rw [← zL] at zr
      have tl : ((cl.take j).flatMap (fun z => [z.1, z.2.1])).length = 2 * j := by rw [two_len, List.length_take]; omega
      obtain ⟨V1, v1, v2, v3⟩ := e_X4_put (n := 1) (v := z.1) hW (by omega) (by rw [List.length_append, Hl, tl]; omega)
      have xV1 : Ex (fun z => z = 31 ∨ z = 32) U V1 := hE.trans v3
      obtain ⟨V2, u1, u2, u3⟩ := e_X4_put (n := 1) (v := z.2.1) v2 (by omega) (by rw [List.length_append, List.length_append, Hl, tl, be_len]; omega)
      have xV2 : Ex (fun z => z = 31 ∨ z = 32) U V2 := xV1.trans u3
      rw [be1 (by omega), be1 (by omega)] at u2
      have v1 : f_X4_put ((31 : Nat) : Int) z.1 1 W = some V1 := v1
      have u1 : f_X4_put ((31 : Nat) : Int) z.2.1 1 V1 = some V2 := u1
      have tk : (cl.take (j + 1)).flatMap (fun z => [z.1, z.2.1]) = (cl.take j).flatMap (fun z => [z.1, z.2.1]) ++ [z.1] ++ [z.2.1] := by
        rw [flat_take (d := it0) _ (show j < cl.length by omega), ← hz, List.append_assoc]; rfl
      obtain ⟨W', r1, r2, r3⟩ := ih (j + 1) fu' V2 (by omega) (by omega) (by rw [tk]; simp only [← List.append_assoc]; exact u2) xV2
      refine ⟨W', ?_, r2, r3⟩
      rw [lpN_cnt (b := fun s : Int × MM => b_X31_check_72 R (Q : Int) ((wa pa t : Nat) : Int) (y : Int) ((31 : Nat) : Int) ((cl.length : Nat) : Int) s.1 s.2) (s := (((f + j : Nat) : Int), W)) (s' := (((f + (j + 1) : Nat) : Int), V2))]
      · exact r1
      · show b_X31_check_72 R (Q : Int) ((wa pa t : Nat) : Int) (y : Int) ((31 : Nat) : Int) ((cl.length : Nat) : Int) ((f + j : Nat) : Int) W = _
        unfold b_X31_check_72
        rw [gfi_e (kU _ hE), hE.rI (ne _ (by unfold AQs; omega)), b16, Option.bind_some, w32_nn (by omega), show (f : Int) + ((cl.length : Nat) : Int) = ((f + cl.length : Nat) : Int) from by omega, w32_nn (by omega), if_pos (by omega), gfr_e (kU _ hE), hE.rR, hS.2.1.2.2.2.2.2.1, Option.bind_some, lai_e (k := 704) (l := 200) (j := f + j) (show kd W (Q + 6) = (704, 200) from by rw [hE.kd]; exact hS.2.2.1.2.2.2.2.2.1) (by decide) (by decide) (w32_nn (by omega)) (by omega), hE.rI (ne _ (by unfold AQs; omega)), g6, Option.bind_some, ck_e (k4 _ hE), v1, Option.bind_some, gfr_e (kU _ xV1), xV1.rR, hS.2.1.2.2.2.2.2.2.1, Option.bind_some, lai_e (k := 720) (l := 200) (j := f + j) (show kd V1 (Q + 7) = (720, 200) from by rw [xV1.kd]; exact hS.2.2.1.2.2.2.2.2.2.1) (by decide) (by decide) (w32_nn (by omega)) (by omega), xV1.rI (ne _ (by unfold AQs; omega)), g7, Option.bind_some, ck_e (k4 _ xV1), u1, Option.bind_some]
        rfl
  obtain ⟨M4, d1, d2, x4⟩ := loop cl.length 0 FU M3 (by omega) (by unfold FU; omega) (by show PkC M3 31 (H ++ []); rw [List.append_nil]; exact c2) x3
  obtain ⟨C4, S4, F4, X4⟩ := PQ_31 hC hS hF hq.1.2 x4
  refine ⟨M4, ?_, C4, S4, F4, ?_, XU.trans X4⟩
  · have jm : jmin 30 ((((qL (yq Y) t).length : Nat) : Int) - (f : Int)) = ((cl.length : Nat) : Int) := by
      unfold jmin
      rw [show (((qL (yq Y) t).length : Nat) : Int) - (f : Int) = (((qL (yq Y) t).length - f : Nat) : Int) from by omega, w32_nn (by omega), show w32 30 = 30 from rfl]
      split <;> omega
    have j21 : ∀ q : Nat, q = qI Y t → j_X31_check_21 R (Q : Int) ((wa pa t : Nat) : Int) ((Q + 5 : Nat) : Int) (q : Int) U = j_X31_check_114 R (Q : Int) ((wa pa t : Nat) : Int) (y : Int) M4 := fun q hqq => by
      unfold j_X31_check_21
      rw [lai_e (k := 688) (l := 3) (j := q) hS.2.2.1.2.2.2.2.1 (by decide) (by decide) (w32_nn (by omega)) (by omega), hqq, x5, Option.bind_some, gfr_e w1.1, g1, Option.bind_some, ck_e k17, a1, Option.bind_some]
      dsimp only
      rw [gfr_e (kU _ a4), a4.rR, hS.2.1.1, Option.bind_some, lar_n (show kd M1 (Q + 1) = (637, 3) from by rw [a4.kd]; exact hS.2.2.1.1) (by decide) y3 (by decide), a4.rR, e0, Option.bind_some, ck_e (k4 _ a4), p1, Option.bind_some, gfi_e (kU _ x2), x2.rI (ne _ (by unfold AQs; omega)), b4.1, Option.bind_some, gfi_e (kU _ x2), x2.rI (ne _ (by unfold AQs; omega)), b16, Option.bind_some, ck_e (k4 _ x2), jm, show f_X4_put ((31 : Nat) : Int) ((cl.length : Nat) : Int) 1 M2 = some M3 from c1, Option.bind_some, gfi_e (kU _ x3), x3.rI (ne _ (by unfold AQs; omega)), b16, Option.bind_some]
      exact d1
    unfold f_X31_check
    rw [pfi_e k310, Option.bind_some, ← hU, gfr_e k31, hS.2.1.2.2.2.2.1, Option.bind_some, gfi_e k31, i15, Option.bind_some]
    by_cases c : yv Y 263 t = 0
    · rw [if_pos c, if_pos (by decide), show j_X31_check_21 R (Q : Int) ((wa pa t : Nat) : Int) ((Q + 5 : Nat) : Int) 0 U = _ from j21 0 (by rw [qi, c]; rfl)]
      unfold j_X31_check_114
      rw [ck_e (kU _ x4)]
    · have c2 : yv Y 263 t = 2 := q63.resolve_left c
      rw [if_neg c, if_neg (by decide), show j_X31_check_21 R (Q : Int) ((wa pa t : Nat) : Int) ((Q + 5 : Nat) : Int) 2 U = _ from j21 2 (by rw [qi, c2]; rfl)]
      unfold j_X31_check_114
      rw [ck_e (kU _ x4)]
  · have e : hdB (tyQ Y t) 0 (kf (own (yp Y t))) ++ bdQ Y t = H ++ cl.flatMap (fun z => [z.1, z.2.1]) := by
      unfold tyQ bdQ
      rw [h5, if_neg (show ¬ (5 : Int) = 3 from by decide), if_neg (show ¬ (5 : Int) = 3 from by decide), if_neg (show ¬ (5 : Int) = 4 from by decide), if_neg (show ¬ (5 : Int) = 4 from by decide), hH, ← hcl]
      simp only [List.append_assoc]; rfl
    rw [e]; exact d2
end CCHKW
