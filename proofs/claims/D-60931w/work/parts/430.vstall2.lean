section VSTALL2
variable {V W : VV} {m al N p t oth Z : Nat} {own : Nat → Ky} {sd ps sn pu rf : Nat → Int} {tm : Int} {ev tn : Nat → Nat} {Lb : Nat → List Trm} {Y : Ys} {Ls : List Nat} {j lim : Nat} {x : Trm}
/-- the postings of a term -/
theorem v_postings {x3 x4 x5 : Int} (ht : t < 44) (hp : p < 32) (h243 : vI V 243 t = (lim : Int)) (hl : lim ≤ 16) (h244 : vI V 244 t = (j : Int)) (hj : j < 64) (hx : gT V p j = x) : ∃ U, l_X16_storeAll_74 (t : Int) (p : Int) x3 x4 x5 0 (st2 V 156 74 0) = j_X16_storeAll_163 (t : Int) (p : Int) x3 x4 x5 U ∧ ItV U (pstT p lim x) ∧ FrS (fun a i => (217 ≤ a ∧ a ≤ 219) ∨ (a = 156 ∧ i = 74)) V U := by
  have loop : ∀ d k fu (U : VV), d + k = lim → d < fu → ItV U (pstT p k x) → FrS (fun a i => (217 ≤ a ∧ a ≤ 219) ∨ (a = 156 ∧ i = 74)) V U → ∃ U', lpN (fun s : Int × VV => b_X16_storeAll_74 (t : Int) (p : Int) x3 x4 x5 s.1 s.2) fu ((k : Int), U) = j_X16_storeAll_163 (t : Int) (p : Int) x3 x4 x5 U' ∧ ItV U' (pstT p lim x) ∧ FrS (fun a i => (217 ≤ a ∧ a ≤ 219) ∨ (a = 156 ∧ i = 74)) V U' := by
    intro d
    induction d with
    | zero =>
      intro k fu U hd hf hI hF
      have e : k = lim := by omega
      subst e
      refine ⟨U, lpN_end (b := fun s : Int × VV => b_X16_storeAll_74 (t : Int) (p : Int) x3 x4 x5 s.1 s.2) (by omega) ?_, hI, hF⟩
      dsimp only
      unfold b_X16_storeAll_74
      rw [l2_n ht (by omega), hF.vI (by omega), h243, Option.bind_some, w32_nn (by omega), if_neg (by omega)]
    | succ d ih =>
      intro k fu U hd hf hI hF
      obtain ⟨f, rfl⟩ : ∃ f, fu = f + 1 := ⟨fu - 1, by omega⟩
      have hw : x.2.2 k = vI V 178 (1024 * p + 64 * k + j) := by rw [← hx]; exact if_pos (by omega)
      have pl := pst_len (p := p) (x := x) k
      obtain ⟨n0, hn0⟩ : ∃ n0, n0 = (pstT p k x).length := ⟨_, rfl⟩
      rw [← hn0] at pl
      obtain ⟨i1, i2⟩ := hI
      rw [← hn0] at i1 i2
      have run : b_X16_storeAll_74 (t : Int) (p : Int) x3 x4 x5 (k : Int) U = if 0 < x.2.2 k then some (.inl (((k + 1 : Nat) : Int), st2 (st2 (st2 (st2 U 217 n0 (p : Int)) 218 n0 (k : Int)) 219 n0 (x.2.2 k)) 156 74 ((n0 : Int) + 1))) else some (.inl (((k + 1 : Nat) : Int), U)) := by
        unfold b_X16_storeAll_74 j_X16_storeAll_157
        rw [l2_n ht (by omega), hF.vI (by omega), h243, Option.bind_some, w32_nn (by omega), w32_nn (by omega), if_pos (by omega), l2_n ht (by omega), hF.vI (by omega), h244, Option.bind_some, c1024m, c64m, cadd, cadd, l2_n (by omega) (by omega), hF.vI (by omega), Option.bind_some, ← hw, show w32 (x.2.2 k) = x.2.2 k by rw [hw]; exact w32_vI]
        by_cases c : 0 < x.2.2 k
        · rw [if_pos c, if_pos c, show w32 (U 156 74) = (n0 : Int) from i1, s2_n (by omega) (by omega), Option.bind_some, v156, vI_ne (by omega), i1, s2_n (by omega) (by omega), Option.bind_some, v156, vI_ne (by omega), vI_ne (by omega), i1, s2_n (by omega) (by omega), Option.bind_some, v156, vI_ne (by omega), vI_ne (by omega), vI_ne (by omega), i1, p2_e, Option.bind_some]
          rfl
        · rw [if_neg c, if_neg c]; rfl
      by_cases c : 0 < x.2.2 k
      · rw [if_pos c] at run
        rw [lpN_cnt (b := fun s : Int × VV => b_X16_storeAll_74 (t : Int) (p : Int) x3 x4 x5 s.1 s.2) (s := ((k : Int), U)) run]
        refine ih (k + 1) f _ (by omega) (by omega) ?_ (fun a i z => by rw [st2_ne (by omega), st2_ne (by omega), st2_ne (by omega), st2_ne (by omega)]; exact hF a i z)
        rw [pst_s, if_pos c]
        refine ⟨by rw [vI_eq rfl, List.length_append, ← hn0, show (n0 : Int) + 1 = ((n0 + 1 : Nat) : Int) from rfl, w32_nn (by omega)]; rfl, fun i hi => ?_⟩
        rw [List.length_append, ← hn0] at hi
        have hi : i < n0 + 1 := hi
        by_cases ci : i = n0
        · have e : (pstT p k x ++ [((p : Int), (k : Int), x.2.2 k)]).getD i it0 = ((p : Int), (k : Int), x.2.2 k) := by
            rw [ci, hn0, List.getD_eq_getElem?_getD, List.getElem?_append_right (Nat.le_refl _), Nat.sub_self]; rfl
          rw [e, ci]
          refine ⟨?_, ?_, ?_⟩
          · rw [vI_ne (by omega), vI_ne (by omega), vI_ne (by omega), vI_eq rfl, w32_nn (by omega)]
          · rw [vI_ne (by omega), vI_ne (by omega), vI_eq rfl, w32_nn (by omega)]
          · rw [vI_ne (by omega), vI_eq rfl, hw, w32_vI]
        · have e : (pstT p k x ++ [((p : Int), (k : Int), x.2.2 k)]).getD i it0 = (pstT p k x).getD i it0 := by
            rw [List.getD_eq_getElem?_getD, List.getElem?_append_left (by omega), List.getD_eq_getElem?_getD]
          rw [e]
          obtain ⟨j1, j2, j3⟩ := i2 i (by omega)
          refine ⟨?_, ?_, ?_⟩
          · rw [vI_ne (by omega), vI_ne (by omega), vI_ne (by omega), vI_ne (by omega)]; exact j1
          · rw [vI_ne (by omega), vI_ne (by omega), vI_ne (by omega), vI_ne (by omega)]; exact j2
          · rw [vI_ne (by omega), vI_ne (by omega), vI_ne (by omega), vI_ne (by omega)]; exact j3
      · rw [if_neg c] at run
        rw [lpN_cnt (b := fun s : Int × VV => b_X16_storeAll_74 (t : Int) (p : Int) x3 x4 x5 s.1 s.2) (s := ((k : Int), U)) run]
        refine ih (k + 1) f U (by omega) (by omega) ?_ hF
        rw [pst_s, if_neg c, List.append_nil]
        exact ⟨by rw [← hn0]; exact i1, by rw [← hn0]; exact i2⟩
  unfold l_X16_storeAll_74
  exact loop lim 0 FU (st2 V 156 74 0) (by omega) (by unfold FU; omega) ⟨by rw [vI_eq rfl]; rfl, fun i hi => absurd hi (by show ¬ i < 0; omega)⟩ (FrS_st (P := fun a i => (217 ≤ a ∧ a ≤ 219) ∨ (a = 156 ∧ i = 74)) (Or.inr ⟨rfl, rfl⟩))
theorem body_app {l : List Int} {v : Int} (h : BodyV V l) (hl : l.length < 325) (hv : 0 ≤ v ∧ v < 256) : ∃ V', f_X16_bodyByte v V = some V' ∧ BodyV V' (l ++ [v]) ∧ FrS PB V V' := by
  obtain ⟨V', e1, e2, _, _⟩ := v_bodyByte (x := v) (y := v) h hl (by rw [band255]; omega) hv
  exact ⟨V', e1, e2, bodyByte_fr e1⟩
/-- they come to the body -/
theorem v_storeBody {x1 x2 x3 x4 x5 : Int} {its : List It} {l : List Int} (hI : ItV V its) (hok : okI its) (hb : BodyV V l) (hl : l.length + 48 ≤ 325) : ∃ U, l_X16_storeAll_226 x1 x2 x3 x4 x5 0 V = j_X16_storeAll_274 x1 x2 x3 x4 x5 U ∧ BodyV U (l ++ its.flatMap be3) ∧ FrS PB V U := by
  have len := hok.1
  have loop : ∀ d k fu (U : VV), d + k = its.length → d < fu → BodyV U (l ++ (its.take k).flatMap be3) → FrS PB V U → ∃ U', lpN (fun s : Int × VV => b_X16_storeAll_226 x1 x2 x3 x4 x5 s.1 s.2) fu ((k : Int), U) = j_X16_storeAll_274 x1 x2 x3 x4 x5 U' ∧ BodyV U' (l ++ its.flatMap be3) ∧ FrS PB V U' := by
    intro d
    induction d with
    | zero =>
      intro k fu U hd hf hB hF
      have e : k = its.length := by omega
      subst e
      rw [List.take_of_length_le (Nat.le_refl _)] at hB
      refine ⟨U, lpN_end (b := fun s : Int × VV => b_X16_storeAll_226 x1 x2 x3 x4 x5 s.1 s.2) (by omega) ?_, hB, hF⟩
      dsimp only
      unfold b_X16_storeAll_226
      rw [v156, hF.vI (by unfold PB; omega), hI.1, w32_nn (by omega), if_neg (by omega)]
    | succ d ih =>
      intro k fu U hd hf hB hF
      obtain ⟨f, rfl⟩ : ∃ f, fu = f + 1 := ⟨fu - 1, by omega⟩
      obtain ⟨z, hz⟩ : ∃ z, z = its.getD k it0 := ⟨_, rfl⟩
      obtain ⟨z1, z2, z3⟩ := hI.2 k (by omega)
      rw [← hz] at z1 z2 z3
      have zo := hok.2 z (by rw [hz]; exact getD_mem (by omega))
      have l3 : ((its.take k).flatMap be3).length = 3 * k := by rw [be3_flat, List.length_take]; omega
      obtain ⟨U1, a1, a2, a3⟩ := body_app (v := z.1) hB (by rw [List.length_append, l3]; omega) (by omega)
      obtain ⟨U2, b1, b2, b3⟩ := body_app (v := z.2.1) a2 (by rw [List.length_append, List.length_append, l3]; show _ + 1 < 325; omega) (by omega)
      obtain ⟨U3, c1, c2, c3⟩ := body_app (v := z.2.2) b2 (by rw [List.length_append, List.length_append, List.length_append, l3]; show _ + 1 + 1 < 325; omega) (by omega)
      have st : b_X16_storeAll_226 x1 x2 x3 x4 x5 (k : Int) U = some (.inl (((k + 1 : Nat) : Int), U3)) := by
        unfold b_X16_storeAll_226
        rw [v156, hF.vI (by unfold PB; omega), hI.1, w32_nn (by omega), w32_nn (by omega), if_pos (by omega), l2_n (by omega) (by omega), hF.vI (by unfold PB; omega), z1, Option.bind_some, a1, Option.bind_some, l2_n (by omega) (by omega), a3.vI (by unfold PB; omega), hF.vI (by unfold PB; omega), z2, Option.bind_some, b1, Option.bind_some, l2_n (by omega) (by omega), b3.vI (by unfold PB; omega), a3.vI (by unfold PB; omega), hF.vI (by unfold PB; omega), z3, Option.bind_some, c1, Option.bind_some]
        rfl
      rw [lpN_cnt (b := fun s : Int × VV => b_X16_storeAll_226 x1 x2 x3 x4 x5 s.1 s.2) (s := ((k : Int), U)) st]
      refine ih (k + 1) f U3 (by omega) (by omega) ?_ (((hF.trans a3).trans b3).trans c3)
      rw [flat_take be3 it0 (by omega), ← hz]
      have : l ++ ((its.take k).flatMap be3 ++ be3 z) = l ++ (its.take k).flatMap be3 ++ [z.1] ++ [z.2.1] ++ [z.2.2] := by
        simp [be3]
      rw [this]; exact c2
  unfold l_X16_storeAll_226
  exact loop its.length 0 FU V (by omega) (by unfold FU; omega) (by rw [List.take_zero, List.flatMap_nil, List.append_nil]; exact hb) FrS.refl
/-- one of the front stores -/
theorem v_storeOne {s i : Nat} {e : Ent} (h : VY V m al N own sd ps sn pu rf tm Lb oth Z ev tn Y) (hB : bdg N ev oth) (ht : t < 44) (hg : goW N Y t) (h6 : yv Y 246 t = 0 ∨ yv Y 246 t = 1) (hyp : yp Y t = p) (hl : yv Y 243 t = (lim : Int)) (hlim : lim ≤ 16) (h244 : vI V 244 t = (j : Int)) (hj : j < 64) (hx : gT V p j = x) (hox : okTr x) (hs : s < 2860) (hse : gE V s = e) (hoe : okE e) :
    ∃ V', l_X16_storeAll_74 (t : Int) (p : Int) ((5 * (64 * p + j) : Nat) : Int) (i : Int) (s : Int) 0 (st2 V 156 74 0) = some (.inl (((i + 1 : Nat) : Int), V')) ∧ VY V' m al N own sd ps sn pu rf tm Lb oth Z ev tn ((stoN N own sd tm t p lim x (yw Y, ys Y) e).1, yl Y, (stoN N own sd tm t p lim x (yw Y, ys Y) e).2, yq Y) ∧ FrS PSt V V' ∧ SK V V' := by
  have s5 := h.2.2.2.2.1
  have pN : p < N := by have := hg.1; unfold yp at hyp; have : (yv Y 228 t).toNat = p := hyp; omega
  obtain ⟨⟨L, hP, hL⟩, ho, _⟩ := id h
  have p32 : p < 32 := by have := ho.2.2.1; omega
  have hown : gk V 165 (5 * p) = own p := (hP.2.1.2.2.1 p p32).1
  obtain ⟨U, a1, a2, a3⟩ := v_postings (x3 := ((5 * (64 * p + j) : Nat) : Int)) (x4 := (i : Int)) (x5 := (s : Int)) ht p32 (by rw [s5 243 t (by unfold scA; omega)]; exact hl) hlim h244 hj hx
  have m39 : ∀ a i, ((217 ≤ a ∧ a ≤ 219) ∨ (a = 156 ∧ i = 74)) → mv a i = 9 := fun a i z => by
    rcases z with z | z
    · have : a = 217 ∨ a = 218 ∨ a = 219 := by omega
      rcases this with z | z | z <;> rw [z] <;> rfl
    · rw [z.1, z.2]; rfl
  have YU := vy_9 h (a3.fr (fun a i z => by rw [m39 a i z]; rfl))
  have k235 : gk U 235 (5 * s) = eKey e := by rw [← hse]; exact gk_ag (fun i => a3.vI (by omega))
  have k165 : gk U 165 (5 * p) = own p := by rw [← hown]; exact gk_ag (fun i => a3.vI (by omega))
  have k177 : gk U 177 (5 * (64 * p + j)) = x.2.1 := by rw [← hx]; exact gk_ag (fun i => a3.vI (by omega))
  have okp := pst_ok (p := p) hox hlim p32
  have sm := v_same (V := U) (e := 235) (n := 14300) (p := 5 * s) (e' := 165) (n' := 160) (p' := 5 * p) m235 (by omega) (by decide) m165k (by omega) (by decide)
  rw [k235, k165] at sm
  rw [a1]
  unfold j_X16_storeAll_163 stoN
  rw [c5m, c5m, show f_X16_same 235 ((5 * s : Nat) : Int) 165 ((5 * p : Nat) : Int) U = _ from sm, Option.bind_some]
  by_cases c : eKey e = own p
  · rw [if_pos c, decide_eq_true c, if_neg (by decide)]
    obtain ⟨V2, done, b1, b2, b3, b4⟩ := vy_keep (e := 177) (n := 10240) (q := 5 * (64 * p + j)) YU pN (by unfold mA; decide) (by omega) (by decide) (fun i => rfl) a2 okp
    rw [k177] at b2 b3
    obtain ⟨V3, c1, c2, c3⟩ := v_stored (done := done) b2 ht hg h6
    refine ⟨V3, ?_, ?_, ?_, ((SK_frs a3 (fun i => ⟨by omega, by omega⟩)).trans (SK_frs b4 (fun i => ⟨by show ¬ ((5 : Nat) = 3 ∨ (197 : Nat) = 172); omega, by show ¬ ((5 : Nat) = 3 ∨ (198 : Nat) = 172); omega⟩))).trans (SK_frs c3 (fun i => ⟨by omega, by omega⟩))⟩
    · rw [show f_X16_keep (p : Int) 177 ((5 * (64 * p + j) : Nat) : Int) U = _ from b1, Option.bind_some, c1]; rfl
    · dsimp only
      cases hks : keepS x.2.1 (pstT p lim x) (tm + wst (yw Y) 7) (wS (yw Y) p) with
      | none =>
        rw [hks] at b3 c2
        rw [b3] at c2
        exact c2
      | some S' =>
        rw [hks] at b3 c2
        rw [b3] at c2
        exact c2
    · exact ((a3.mono (fun a i z => by unfold PSt; rcases z with z | z <;> omega)).trans (b4.mono (fun a i z => by
        unfold PSt
        rcases z with z | z
        · omega
        · left; unfold PG; right; left; rw [z]; rfl))).trans (c3.mono (fun a i z => by unfold PSt; omega))
  · rw [if_neg c, decide_eq_false c, if_pos (by decide)]
    obtain ⟨V1, d1, d2, _, _⟩ := v_bodyKey (V := U) (e := 177) (n := 10240) (p := 5 * (64 * p + j)) (by unfold mA; decide) (by decide) (by omega) (by decide)
    have f1 := bodyKey_fr d1
    have d2 : BodyV V1 (kbs x.2.1) := by
      have : kby (kV U 177 (5 * (64 * p + j))) = kbs x.2.1 := by rw [kby_ky, ← k177]; rfl
      rw [← this]; exact d2
    have l20 := (kbs_BL x.2.1).2
    have pl := okp.1
    have r74 : w32 (V1 156 74) = (((pstT p lim x).length : Nat) : Int) := by rw [v156, f1.vI (by unfold PB; omega)]; exact a2.1
    obtain ⟨V2, g1, g2, g3⟩ := body_app (v := (((pstT p lim x).length : Nat) : Int)) d2 (by omega) (by omega)
    have I2 : ItV V2 (pstT p lim x) := ⟨by rw [g3.vI (by unfold PB; omega), f1.vI (by unfold PB; omega)]; exact a2.1, fun i hi => by
      rw [g3.vI (by unfold PB; omega), f1.vI (by unfold PB; omega), g3.vI (by unfold PB; omega), f1.vI (by unfold PB; omega), g3.vI (by unfold PB; omega), f1.vI (by unfold PB; omega)]; exact a2.2 i hi⟩
    obtain ⟨V3, i1, i2, i3⟩ := v_storeBody (x1 := (t : Int)) (x2 := (p : Int)) (x3 := ((5 * (64 * p + j) : Nat) : Int)) (x4 := (i : Int)) (x5 := (s : Int)) I2 okp g2 (by rw [List.length_append, l20]; show 20 + 1 + 48 ≤ 325; omega)
    have bdE : kbs x.2.1 ++ [(((pstT p lim x).length : Nat) : Int)] ++ (pstT p lim x).flatMap be3 = stB x p lim := by unfold stB; simp
    rw [bdE] at i2
    have FB := (f1.trans g3).trans i3
    have Y3 := vy_9 YU (FB.fr (fun a i z => by unfold PB at z; rcases z with z | z; rw [z]; rfl; rw [z.1, z.2]; rfl))
    have bl : isBL (stB x p lim) ∧ (stB x p lim).length ≤ 325 := by
      unfold stB
      refine ⟨isBL_app (kbs_isBL _) (fun b hb => ?_), ?_⟩
      · rcases List.mem_cons.mp hb with z | z
        · rw [z]; omega
        · exact be3_isBL (okI_tl okp) b z
      · rw [List.length_append, l20, List.length_cons, be3_flat]; omega
    have k235' : gk V3 235 (5 * s) = eKey e := by rw [← k235]; exact gk_ag (fun i => FB.vI (by unfold PB; omega))
    have r236 : vI V3 236 s = eAdr e := by
      rw [FB.vI (by unfold PB; omega), a3.vI (by omega), ← hse]; rfl
    obtain ⟨V4, k1, k2, k3, k4⟩ := vy_ask (ad := eAdr e) (ty := 7) (e := 235) (n := 14300) (q := 5 * s) Y3 hB ht hg hoe.2.1 (by decide) m235 (by omega) (by decide) (fun i => ⟨by show 6 ≠ 5; decide, by unfold PO; omega⟩) (by decide) i2 bl.1 bl.2
    rw [k235', hyp] at k1 k2
    have fr : FrS PSt V V4 := ((a3.mono (fun a i z => by unfold PSt; rcases z with z | z <;> omega)).trans (FB.mono (fun a i z => by unfold PSt; exact Or.inr (Or.inl z)))).trans (k3.mono (fun a i z => by unfold PSt; rcases z with z | z; exact Or.inl z; omega))
    have sk4 : SK V V4 := ((SK_frs a3 (fun i => ⟨by omega, by omega⟩)).trans (SK_frs FB (fun i => ⟨by unfold PB; omega, by unfold PB; omega⟩))).trans k4
    have run : ((f_X16_bodyKey 177 ((5 * (64 * p + j) : Nat) : Int) U).bind fun V1 => (f_X16_bodyByte (w32 (V1 156 74)) V1).bind fun V2 => l_X16_storeAll_226 (t : Int) (p : Int) ((5 * (64 * p + j) : Nat) : Int) (i : Int) (s : Int) 0 V2) = (if w32 (b2i (askY N own sd tm (yw Y) p (eAdr e) 7 (eKey e) (stB x p lim) (some t) none).2) = 0 then (s2z 246 44 (t : Int) 1 V4).bind fun V1 => j_X16_storeAll_319 (t : Int) (p : Int) ((5 * (64 * p + j) : Nat) : Int) (i : Int) V1 else (l2 245 44 (t : Int) V4).bind fun v2 => (s2 245 44 (t : Int) (v2 + 1) V4).bind fun V2 => j_X16_storeAll_319 (t : Int) (p : Int) ((5 * (64 * p + j) : Nat) : Int) (i : Int) V2) := by
      rw [show f_X16_bodyKey 177 ((5 * (64 * p + j) : Nat) : Int) U = _ from d1, Option.bind_some, r74, g1, Option.bind_some, i1]
      unfold j_X16_storeAll_274
      rw [l2_n hs (by omega), r236, Option.bind_some, c5m, show f_X16_askFor (t : Int) (eAdr e) 235 ((5 * s : Nat) : Int) 7 V3 = _ from k1, Option.bind_some]
    rw [run, w32_b2i]
    dsimp only
    obtain ⟨A, hA⟩ : ∃ A, A = askY N own sd tm (yw Y) p (eAdr e) 7 (eKey e) (stB x p lim) (some t) none := ⟨_, rfl⟩
    rw [← hA] at k2 ⊢
    cases hd : A.2 with
    | false =>
      rw [if_pos (by decide), s2z_n ht (by omega) (Or.inr rfl), if_neg (by decide)]
      refine ⟨_, rfl, vy_st (a := 246) (i := t) (v := 1) k2 (by omega), fr.trans (FrS_st (P := PSt) (by unfold PSt; omega)), sk4.trans (SK_ag (fun r => ⟨vI_ne (by omega), vI_ne (by omega)⟩))⟩
    | true =>
      have r245 : vI V4 245 t = vI (raS t (ys Y)) 245 t := k2.2.2.2.2.1 245 t (by unfold scA; omega)
      rw [if_neg (by decide), l2_n ht (by omega), r245, Option.bind_some, s2_n ht (by omega), if_pos rfl]
      refine ⟨_, rfl, vy_st (a := 245) (i := t) (v := vI (raS t (ys Y)) 245 t + 1) k2 (by omega), fr.trans (FrS_st (P := PSt) (by unfold PSt; omega)), sk4.trans (SK_ag (fun r => ⟨vI_ne (by omega), vI_ne (by omega)⟩))⟩
theorem raS_ne {sc : VV} {a i : Nat} (h : a ≠ 268) : vI (raS t sc) a i = vI sc a i := by
  unfold raS
  split
  · rw [vI_st2, if_neg (fun z => h z.1)]
  · rfl
theorem stdS_ne {sc : VV} {a i : Nat} {done : Bool} (h : a ≠ 246) (h2 : a ≠ 269) : vI (stdS t done sc) a i = vI sc a i := by
  unfold stdS
  split
  · split
    · rw [vI_st2, if_neg (fun z => h2 z.1)]
    · rfl
  · rw [vI_st2, if_neg (fun z => h z.1)]
theorem stdS_6 {sc : VV} {done : Bool} (h : vI sc 246 t = 0 ∨ vI sc 246 t = 1) : vI (stdS t done sc) 246 t = 0 ∨ vI (stdS t done sc) 246 t = 1 := by
  unfold stdS
  split
  · split
    · rw [vI_st2, if_neg (by omega)]; exact h
    · exact h
  · rw [vI_eq rfl]; exact Or.inr rfl
theorem stoN_cs {s : Wd × VV} {e : Ent} : (stoN N own sd tm t p lim x s e).2 = stdS t true s.2 ∨ (stoN N own sd tm t p lim x s e).2 = stdS t false s.2 ∨ (stoN N own sd tm t p lim x s e).2 = st2 (raS t s.2) 245 t (vI (raS t s.2) 245 t + 1) ∨ (stoN N own sd tm t p lim x s e).2 = st2 (raS t s.2) 246 t 1 := by
  unfold stoN
  by_cases c : eKey e = own p
  · rw [if_pos c]
    cases keepS x.2.1 (pstT p lim x) (tm + wst s.1 7) (wS s.1 p) with
    | none => exact Or.inr (Or.inl rfl)
    | some S' => exact Or.inl rfl
  · rw [if_neg c]
    dsimp only
    cases (askY N own sd tm s.1 p (eAdr e) 7 (eKey e) (stB x p lim) (some t) none).2 with
    | true => rw [if_pos rfl]; exact Or.inr (Or.inr (Or.inl rfl))
    | false => rw [if_neg (by decide)]; exact Or.inr (Or.inr (Or.inr rfl))
theorem stoN_ne {s : Wd × VV} {e : Ent} {a i : Nat} (h : a ≠ 245 ∧ a ≠ 246 ∧ a ≠ 268 ∧ a ≠ 269) : vI (stoN N own sd tm t p lim x s e).2 a i = vI s.2 a i := by
  rcases stoN_cs (N := N) (own := own) (sd := sd) (tm := tm) (t := t) (p := p) (lim := lim) (x := x) (s := s) (e := e) with z | z | z | z <;> rw [z]
  · exact stdS_ne h.2.1 h.2.2.2
  · exact stdS_ne h.2.1 h.2.2.2
  · rw [vI_st2, if_neg (fun z => h.1 z.1)]; exact raS_ne h.2.2.1
  · rw [vI_st2, if_neg (fun z => h.2.1 z.1)]; exact raS_ne h.2.2.1
theorem stoN_6 {s : Wd × VV} {e : Ent} (h : vI s.2 246 t = 0 ∨ vI s.2 246 t = 1) : vI (stoN N own sd tm t p lim x s e).2 246 t = 0 ∨ vI (stoN N own sd tm t p lim x s e).2 246 t = 1 := by
  rcases stoN_cs (N := N) (own := own) (sd := sd) (tm := tm) (t := t) (p := p) (lim := lim) (x := x) (s := s) (e := e) with z | z | z | z <;> rw [z]
  · exact stdS_6 h
  · exact stdS_6 h
  · rw [vI_st2, if_neg (by omega), raS_ne (by decide)]; exact h
  · rw [vI_eq rfl]; exact Or.inr rfl
theorem stoF_ne {s : Wd × VV} {a i : Nat} (h : a ≠ 245 ∧ a ≠ 246 ∧ a ≠ 268 ∧ a ≠ 269) : ∀ (F : List Ent) (s : Wd × VV), vI (F.foldl (stoN N own sd tm t p lim x) s).2 a i = vI s.2 a i
  | [], _ => rfl
  | e :: F, s => by rw [List.foldl_cons, stoF_ne (s := s) h F, stoN_ne h]
theorem stoF_6 : ∀ (F : List Ent) (s : Wd × VV), (vI s.2 246 t = 0 ∨ vI s.2 246 t = 1) → (vI (F.foldl (stoN N own sd tm t p lim x) s).2 246 t = 0 ∨ vI (F.foldl (stoN N own sd tm t p lim x) s).2 246 t = 1)
  | [], _, h => h
  | e :: F, s, h => by rw [List.foldl_cons]; exact stoF_6 F _ (stoN_6 h)
theorem PSt_no {a i : Nat} (h : (175 ≤ a ∧ a ≤ 178) ∨ (226 ≤ a ∧ a ≤ 244) ∨ (a = 156 ∧ i = 106)) : ¬ PSt a i := fun q => by
  unfold PSt PG PO PB at q
  have : mv a i = 4 ∨ mv a i = 6 ∨ mv a i = 9 := by
    rcases h with h | h | h
    · left
      unfold mv
      rw [if_neg (by omega)]
      unfold mvA
      rw [if_neg (by omega), if_neg (by omega), if_neg (by omega), if_pos (by omega)]
    · right
      unfold mv
      rw [if_neg (by omega)]
      unfold mvA
      rw [if_neg (by omega), if_neg (by omega), if_neg (by omega), if_neg (by omega), if_neg (by omega)]
      by_cases c : 226 ≤ a ∧ a ≤ 264 ∧ a ≠ 240
      · rw [if_pos c]; exact Or.inl rfl
      · rw [if_neg c, if_neg (by omega)]; exact Or.inr rfl
    · rw [h.1, h.2]; exact Or.inr (Or.inr rfl)
  omega
theorem PSt_kp {a i : Nat} (h : PSt a i) : ¬ kp0 a i := fun k => by
  unfold PSt PG PO PB at h
  have : mv a i = 4 ∨ mv a i = 8 ∨ mv a i = 9 := by
    unfold kp0 at k
    rcases k with k | k | k | k | k | k | k
    · rw [k]; exact Or.inr (Or.inl rfl)
    · rw [k]; exact Or.inr (Or.inl rfl)
    · rw [k]; exact Or.inr (Or.inl rfl)
    · rw [k]; exact Or.inr (Or.inl rfl)
    · rw [k]; exact Or.inr (Or.inr rfl)
    · left
      unfold mv
      rw [if_neg (by omega)]
      unfold mvA
      rw [if_neg (by omega), if_neg (by omega), if_neg (by omega), if_pos (by omega)]
    · rcases k.2 with z | z <;> rw [k.1, z] <;> exact Or.inr (Or.inl rfl)
  unfold kp0 at k
  omega
/-- a term's postings are stored by the front -/
theorem v_storeAll (h : VY V m al N own sd ps sn pu rf tm Lb oth Z ev tn Y) (hB : bdg N ev oth) (ht : t < 44) (htn : tn t < 2000000000) (hg : goW N Y t) (hgo : yv Y 226 t ≠ 0) (hk : yv Y 227 t = 2) (hlim : 0 ≤ yv Y 243 t ∧ yv Y 243 t ≤ 16) (h4 : 0 ≤ yv Y 244 t) (h6 : yv Y 246 t = 0 ∨ yv Y 246 t = 1) (hf : FroV V m t (yl Y t).2.2.1 Ls) : ∃ V', f_X16_storeAll (t : Int) V = some V' ∧ VY V' m al N own sd ps sn pu rf tm Lb oth Z ev (fup tn t (tn t + 1)) (stoY m N own sd tm Lb t Y) ∧ KpV V V' := by
  obtain ⟨p, hp⟩ : ∃ p : Nat, yv Y 228 t = (p : Int) := ⟨(yv Y 228 t).toNat, by have := hg.1; omega⟩
  have hyp : yp Y t = p := by unfold yp; show (yv Y 228 t).toNat = p; omega
  obtain ⟨lim, hl⟩ : ∃ l : Nat, yv Y 243 t = (l : Int) := ⟨(yv Y 243 t).toNat, by omega⟩
  have s5 := h.2.2.2.2.1
  have r228 : vI V 228 t = (p : Int) := by rw [s5 228 t (by unfold scA; omega)]; exact hp
  obtain ⟨⟨L, hP, _⟩, _⟩ := id h
  have hm : m ≤ 20 := hP.2.2.2.2.2.2.2.2
  have p32 : p < 32 := by have := hg.1; have := hP.2.1.2.1; omega
  obtain ⟨b1, b2, b3, b4⟩ := h.2.2.2.2.2.2.1 p p32
  have tmr := h.2.2.2.2.2.2.2 t ht hgo hk
  unfold TmR at tmr
  rw [show vI (ys Y) 228 t = (p : Int) from hp, show vI (ys Y) 243 t = (lim : Int) from hl, Int.toNat_natCast, Int.toNat_natCast] at tmr
  obtain ⟨j, x, hj, r244, hx, hox, htr⟩ : ∃ j x, j < 64 ∧ vI V 244 t = ((j : Nat) : Int) ∧ gT V p j = x ∧ okTr x ∧ trY Lb t Y = x := by
    rcases tmr with k | ⟨a, j, k1, k2, k3, k4, k5⟩
    · have : yv Y 244 t = -1 := k.1
      omega
    · refine ⟨j, gT V p j, by have := b2.1; omega, k4, rfl, ?_, ?_⟩
      · rw [k5]
        have : (pbT lim (Lb p)).getD a trm0 ∈ pbT lim (Lb p) := getD_mem k2
        exact b2.2.2 _ (List.mem_filter.mp this).1
      · unfold trY
        rw [hyp, show (yv Y 243 t).toNat = lim by omega, show (yv Y 244 t).toNat = a by have : yv Y 244 t = (a : Int) := k1; omega]
        exact k5.symm
  obtain ⟨e1, Y1, K1⟩ := vy_turn h ht htn
  obtain ⟨V1, hV1⟩ : ∃ V1, V1 = st2 V 231 t ((tn t : Int) + 1) := ⟨_, rfl⟩
  rw [← hV1] at Y1 K1
  have Y2 := vy_st (a := 230) (i := t) (v := 2) Y1 (by omega)
  have Y3 := vy_st (a := 245) (i := t) (v := 0) Y2 (by omega)
  obtain ⟨V3, hV3⟩ : ∃ V3, V3 = st2 (st2 V1 230 t 2) 245 t 0 := ⟨_, rfl⟩
  rw [← hV3] at Y3
  have r3 : ∀ a i, a ≠ 231 → a ≠ 230 → a ≠ 245 → vI V3 a i = vI V a i := fun a i z1 z2 z3 => by
    rw [hV3, vI_ne (fun z => z3 z.1), vI_ne (fun z => z2 z.1), hV1, vI_ne (fun z => z1 z.1)]
  have hE := (h.2.2.2.1 t ht).1.2.2.1
  have lts := fro_lt hf hE.1 ht
  have l20 := fro_len hf hm
  obtain ⟨F, hF⟩ : ∃ F, F = frontE m (yl Y t).2.2.1 := ⟨_, rfl⟩
  have lF : F.length = Ls.length := by rw [hF, ← hf.2.2.2, List.length_map]
  obtain ⟨s0, hs0⟩ : ∃ s0 : Wd × VV, s0 = (dtW t (yw Y), st2 (st2 (ys Y) 230 t 2) 245 t 0) := ⟨_, rfl⟩
  have z0 : ∀ a i, a ≠ 230 → a ≠ 245 → vI s0.2 a i = vI (ys Y) a i := fun a i q1 q2 => by
    rw [hs0]
    show vI (st2 (st2 (ys Y) 230 t 2) 245 t 0) a i = _
    rw [vI_ne (fun z => q2 z.1), vI_ne (fun z => q1 z.1)]
  have loop : ∀ d k fu (U : VV), d + k = Ls.length → d < fu → VY U m al N own sd ps sn pu rf tm Lb oth Z ev (fup tn t (tn t + 1)) (((F.take k).foldl (stoN N own sd tm t p lim x) s0).1, yl Y, ((F.take k).foldl (stoN N own sd tm t p lim x) s0).2, yq Y) → (FrS PSt V3 U ∧ SK V3 U) → ∃ U', lpN (fun s : Int × VV => b_X16_storeAll_48 (t : Int) (p : Int) ((5 * (64 * p + j) : Nat) : Int) s.1 s.2) fu ((k : Int), U) = some U' ∧ VY U' m al N own sd ps sn pu rf tm Lb oth Z ev (fup tn t (tn t + 1)) ((F.foldl (stoN N own sd tm t p lim x) s0).1, yl Y, (F.foldl (stoN N own sd tm t p lim x) s0).2, yq Y) ∧ FrS PSt V3 U' ∧ SK V3 U' := by
    intro d
    induction d with
    | zero =>
      intro k fu U hd hfu hU ⟨fU, sU⟩
      have e : k = Ls.length := by omega
      subst e
      rw [List.take_of_length_le (by omega)] at hU
      refine ⟨U, lpN_end (b := fun s : Int × VV => b_X16_storeAll_48 (t : Int) (p : Int) ((5 * (64 * p + j) : Nat) : Int) s.1 s.2) (by omega) ?_, hU, fU, sU⟩
      dsimp only
      unfold b_X16_storeAll_48
      rw [v156, fU.vI (PSt_no (by omega)), r3 156 106 (by decide) (by decide) (by decide), hf.1, w32_nn (by omega), if_neg (by omega)]
    | succ d ih =>
      intro k fu U hd hfu hU ⟨fU, sU⟩
      obtain ⟨f, rfl⟩ : ∃ f, fu = f + 1 := ⟨fu - 1, by omega⟩
      obtain ⟨s, hs⟩ : ∃ s, s = Ls.getD k 0 := ⟨_, rfl⟩
      have s1 : s < 2860 := by rw [hs]; exact lts k (by omega)
      have r240 : vI U 240 k = (s : Int) := by rw [fU.vI (PSt_no (by omega)), r3 240 k (by decide) (by decide) (by decide), hs]; exact hf.2.1 k (by omega)
      have ge : gE U s = F.getD k ent0 := by
        rw [← (show gE V s = F.getD k ent0 by rw [hs, hF]; exact fro_get hf (by omega))]
        refine gE_ext (gk_ag (fun i => ?_)) ?_ ?_ ?_ <;> rw [fU.vI (PSt_no (by omega)), r3 _ _ (by decide) (by decide) (by decide)]
      have oe : okE (F.getD k ent0) := by
        have m1 : F.getD k ent0 ∈ F := getD_mem (by omega)
        rw [hF] at m1
        rw [← hF] at m1
        exact hE.2.2 _ (front_mem (k := m) (by rw [← hF]; exact m1))
      obtain ⟨sk, hsk⟩ : ∃ sk, sk = (F.take k).foldl (stoN N own sd tm t p lim x) s0 := ⟨_, rfl⟩
      rw [← hsk] at hU
      have zk : ∀ a i, a ≠ 230 → a ≠ 245 → a ≠ 246 → a ≠ 268 → a ≠ 269 → vI sk.2 a i = vI (ys Y) a i := fun a i q1 q2 q3 q4 q5 => by
        rw [hsk, stoF_ne (s := s0) ⟨q2, q3, q4, q5⟩]; exact z0 a i q1 q2
      have g' : goW N (sk.1, yl Y, sk.2, yq Y) t := by
        have a1 : yv (sk.1, yl Y, sk.2, yq Y) 228 t = yv Y 228 t := zk 228 t (by decide) (by decide) (by decide) (by decide) (by decide)
        have a2 : yv (sk.1, yl Y, sk.2, yq Y) 229 t = yv Y 229 t := zk 229 t (by decide) (by decide) (by decide) (by decide) (by decide)
        unfold goW
        rw [a1, a2]; exact hg
      have h6' : yv (sk.1, yl Y, sk.2, yq Y) 246 t = 0 ∨ yv (sk.1, yl Y, sk.2, yq Y) 246 t = 1 := by
        show vI sk.2 246 t = 0 ∨ vI sk.2 246 t = 1
        rw [hsk]
        refine stoF_6 _ _ ?_
        rw [z0 246 t (by decide) (by decide)]; exact h6
      obtain ⟨V', c1, c2, c3, c4⟩ := v_storeOne (s := s) (i := k) (e := F.getD k ent0) (x := x) hU hB ht g' h6' (show yp (sk.1, yl Y, sk.2, yq Y) t = p by
        unfold yp
        show (vI sk.2 228 t).toNat = p
        rw [zk 228 t (by decide) (by decide) (by decide) (by decide) (by decide), show vI (ys Y) 228 t = (p : Int) from hp]; rfl) (show yv (sk.1, yl Y, sk.2, yq Y) 243 t = (lim : Int) from (zk 243 t (by decide) (by decide) (by decide) (by decide) (by decide)).trans hl) (by omega) (by rw [fU.vI (PSt_no (by omega)), r3 _ _ (by decide) (by decide) (by decide)]; exact r244) hj (by rw [← hx]; exact gT_ext (fun a i z => by rw [fU.vI (PSt_no (by omega)), r3 _ _ (by omega) (by omega) (by omega)])) hox s1 ge oe
      have st : b_X16_storeAll_48 (t : Int) (p : Int) ((5 * (64 * p + j) : Nat) : Int) (k : Int) U = some (.inl (((k + 1 : Nat) : Int), V')) := by
        unfold b_X16_storeAll_48
        rw [v156, fU.vI (PSt_no (by omega)), r3 156 106 (by decide) (by decide) (by decide), hf.1, w32_nn (by omega), w32_nn (by omega), if_pos (by omega), l2_n (by omega) (by omega), r240, Option.bind_some, p2_e, Option.bind_some]
        exact c1
      rw [lpN_cnt (b := fun s : Int × VV => b_X16_storeAll_48 (t : Int) (p : Int) ((5 * (64 * p + j) : Nat) : Int) s.1 s.2) (s := ((k : Int), U)) st]
      refine ih (k + 1) f V' (by omega) (by omega) ?_ ⟨fU.trans c3, sU.trans c4⟩
      rw [take_s (d := ent0) (by omega), List.foldl_append, ← hsk]
      exact c2
  obtain ⟨U, u1, u2, u3, u4⟩ := loop Ls.length 0 FU V3 (by omega) (by unfold FU; omega) (by rw [List.take_zero, hs0]; exact Y3) ⟨FrS.refl, SK.refl⟩
  refine ⟨U, ?_, ?_, (K1.trans (KpV.trans (KpV_st (a := 230) (by unfold kpA; omega)) (hV3 ▸ KpV_st (by unfold kpA; omega)))).trans (KpV_sk u3 (fun a i z => PSt_kp z) u4)⟩
  · unfold f_X16_storeAll l_X16_storeAll_48
    rw [l2_n ht (by omega), r228, Option.bind_some, l2_n ht (by omega), r244, Option.bind_some, e1, Option.bind_some, s2_n ht (by omega), Option.bind_some, ← hV1, s2_n ht (by omega), Option.bind_some, s2_n ht (by omega), Option.bind_some, ← hV3, c64m, cadd, c5m]
    exact u1
  · unfold stoY
    rw [hyp, show (yv Y 243 t).toNat = lim by omega, htr, ← hF, ← hs0]
    exact u2
end VSTALL2
