/-! a refreshing starts in the background, both sides -/
section JBACK4
variable {S : Nat → Bool} {M M1 : MM} {V V1 W sc : VV} {m al N p t t' nb nb' oth Z L k K kx n : Nat} {pa tk : Nat → Nat} {own : Nat → Ky} {sd ps sn pu rf : Nat → Int} {tm x kind : Int} {lf lf0 lf' : Nat → Nat} {b b0 b0' B : Nat × Nat} {h h' : Gh} {eg : EG} {pb as : Nat → Option Nat} {mn sto : Nat → Int} {fa : Nat → Nat} {Y Yo Y1 Y' : Ys} {Lb : Nat → List Trm} {LA : Nat → List Nat} {dn : Nat → Int} {ev tn tn0 tn' nS : Nat → Nat} {KL : List Ky}
/-- other works when one opens -/
theorem wE_o (h : wE N own Lb Y t') (hne : t' ≠ t) (hv : ∀ a, 226 ≤ a → a ≤ 264 → a ≠ 250 → a ≠ 252 → vI sc a t' = yv Y a t') (h5 : ∀ a i, a = 250 ∨ a = 252 → vI sc a i = yv Y a i) (h9 : yv Y 226 t' = 1 → t' < 12 → vI sc 269 (yv Y 229 t').toNat = yv Y 269 (yv Y 229 t').toNat) : wE N own Lb (dtW t (yw Y), yl Y, sc, yq Y) t' := by
  obtain ⟨Y1, hY1⟩ : ∃ Y1 : Ys, Y1 = (dtW t (yw Y), yl Y, sc, yq Y) := ⟨_, rfl⟩
  rw [← hY1]
  have v : ∀ a, 226 ≤ a → a ≤ 264 → a ≠ 250 → a ≠ 252 → yv Y1 a t' = yv Y a t' := fun a z1 z2 z3 z4 => by rw [hY1]; exact hv a z1 z2 z3 z4
  have v5 : ∀ i, i < 3 → yv Y1 250 (3 * t' + i) = yv Y 250 (3 * t' + i) := fun i z => by rw [hY1]; exact h5 250 _ (Or.inl rfl)
  have vp : yp Y1 t' = yp Y t' := by unfold yp; rw [show vI (ys Y1) 228 t' = vI (ys Y) 228 t' from v 228 (by omega) (by omega) (by omega) (by omega)]
  have rq : ∀ q, rqv t' (wQ (yw Y1) q) = rqv t' (wQ (yw Y) q) := fun q => by rw [hY1]; exact rqv_dt hne
  have cn : cnA (yp Y t') t' (yw Y1) = cnA (yp Y t') t' (yw Y) := by rw [cnA_rqv, cnA_rqv, rq]
  have ty : tyS Y1 t' = tyS Y t' := by
    unfold tyS
    rw [v 230 (by omega) (by omega) (by omega) (by omega), show yl Y1 t' = yl Y t' by rw [hY1]]
  have eq : yq Y1 = yq Y := by rw [hY1]
  obtain ⟨a, b, c⟩ := h
  have rm : rmt own Y1 t' := fun z1 z2 => by
    rw [v 226 (by omega) (by omega) (by omega) (by omega)] at z1
    rw [v 230 (by omega) (by omega) (by omega) (by omega)] at z2
    have qi : qI Y1 t' = qI Y t' := by
      unfold qI
      rw [v 230 (by omega) (by omega) (by omega) (by omega), v 247 (by omega) (by omega) (by omega) (by omega), v 263 (by omega) (by omega) (by omega) (by omega)]
    have qq : qQ Y1 t' = qQ Y t' := by unfold qQ; rw [qi, eq]
    rw [qq, vp, eq]
    exact b z1 z2
  refine ⟨⟨by rw [v 226 (by omega) (by omega) (by omega) (by omega)]; exact a.1, fun p y hy hw => ?_, fun z => ?_⟩, rm, fun z => ⟨fun z3 => ?_, fun z4 o => absurd o (rm z (by omega))⟩⟩
  · obtain ⟨z, hz, hzw, hzt⟩ := rqv_mem (rq p) hy hw
    obtain ⟨a1, a2, a3⟩ := a.2.1 p z hz hzw
    exact ⟨by rw [v 226 (by omega) (by omega) (by omega) (by omega)]; exact a1, by rw [vp]; exact a2, by rw [ty, ← hzt]; exact a3⟩
  · rw [v 226 (by omega) (by omega) (by omega) (by omega)] at z
    obtain ⟨a1, a2, a3, a4⟩ := a.2.2 z
    refine ⟨by unfold goW; rw [v 228 (by omega) (by omega) (by omega) (by omega), v 229 (by omega) (by omega) (by omega) (by omega)]; exact a1, by rw [v 229 (by omega) (by omega) (by omega) (by omega)]; exact a2, by rw [v 229 (by omega) (by omega) (by omega) (by omega), vp]; exact a3, ?_⟩
    unfold kOK
    rw [v 227 (by omega) (by omega) (by omega) (by omega), v 230 (by omega) (by omega) (by omega) (by omega), v 242 (by omega) (by omega) (by omega) (by omega), v 241 (by omega) (by omega) (by omega) (by omega), v 243 (by omega) (by omega) (by omega) (by omega), v 244 (by omega) (by omega) (by omega) (by omega), v 245 (by omega) (by omega) (by omega) (by omega), v 246 (by omega) (by omega) (by omega) (by omega), v 247 (by omega) (by omega) (by omega) (by omega), v 248 (by omega) (by omega) (by omega) (by omega), v 229 (by omega) (by omega) (by omega) (by omega), vp, cn]
    rcases a4 with h | h | h | ⟨h1, h2, h3, h4, h5⟩
    · exact Or.inl h
    · exact Or.inr (Or.inl h)
    · exact Or.inr (Or.inr (Or.inl h))
    · refine Or.inr (Or.inr (Or.inr ⟨h1, h2, ?_, h4, ?_⟩))
      · rw [show yv Y1 269 (yv Y 229 t').toNat = yv Y 269 (yv Y 229 t').toNat by rw [hY1]; exact h9 z h2]; exact h3
      · rcases h5 with ⟨g1, g2, g3⟩ | ⟨g1, g2⟩
        · exact Or.inl ⟨g1, g2, fun i hi => by rw [v5 i (by omega)]; exact g3 i hi⟩
        · exact Or.inr ⟨qOK_of g1 (fun a z => v a (by omega) (by omega) (by omega) (by omega)) v5 vp (by rw [eq]) (fun i _ => by rw [eq]) (by rw [eq]) (by rw [eq]) (by rw [eq]), g2⟩
  · rw [v 226 (by omega) (by omega) (by omega) (by omega)] at z
    rw [v 230 (by omega) (by omega) (by omega) (by omega)] at z3
    rw [v 254 (by omega) (by omega) (by omega) (by omega), eq]
    exact (c z).1 z3
theorem mu_op (hne : t' ≠ t) : mu own (opY t kind p Y) t' = mu own Y t' := by
  have v : ∀ a, yv (opY t kind p Y) a t' = yv Y a t' := fun a => op_ne (by omega)
  unfold mu
  rw [v, v, v, v, v, v, v, v, v, v, show yp (opY t kind p Y) t' = yp Y t' by unfold yp; rw [show vI (ys (opY t kind p Y)) 228 t' = vI (ys Y) 228 t' from v 228], show yq (opY t kind p Y) = yq Y from rfl]
/-- the reference opens a background work -/
theorem vy_opB (h : VY V m al N own sd ps sn pu rf tm Lb oth Z ev tn Y) (ht : t < 44) (h12 : 12 ≤ t) (hk : 0 ≤ kind ∧ kind ≤ 5) (hk2 : kind ≠ 2) (hp : p < 32) (htn : tn t < 2000000000) : VY (st2 (opB t kind p V) 231 t ((tn t : Int) + 1)) m al N own sd ps sn pu rf tm Lb oth Z ev (fup tn t (tn t + 1)) (opY t kind p Y) ∧ KpV V (st2 (opB t kind p V) 231 t ((tn t : Int) + 1)) := by
  have raw : ∀ a i, ¬ ((a = 226 ∨ a = 227 ∨ a = 228 ∨ a = 229) ∧ i = t) → opB t kind p V a i = V a i := fun a i z => by
    unfold opB
    rw [st2_ne (by omega), st2_ne (by omega), st2_ne (by omega), st2_ne (by omega)]
  refine ⟨vy_op h ht htn (fun a i z => ?_) (fun a i z => ?_) ?_ (fun a i z => ?_) ?_, KpV_ag (fun a i z => ?_)⟩
  · by_cases c : a = 231 ∧ i = t
    · rw [c.1, c.2]; unfold st2; rw [if_pos ⟨rfl, rfl⟩, if_pos ⟨rfl, rfl⟩]
    · rw [st2_ne c, st2_ne c]; exact raw a i (by omega)
  · rw [vI_ne (by omega)]; exact opB_ne (by omega)
  · refine sc_ne ?_ (by unfold scA; omega)
    unfold opB
    exact sc_st (sc_st (sc_st (sc_st h.2.2.2.2.1)))
  · rw [vI_ne (by omega)]; exact opB_ne (by omega)
  · refine TmV_ag h.2.2.2.2.2.2.2 (fun a i z => by rw [vI_ne (by omega)]; exact opB_ne (by omega)) (fun t' ht' z1 z2 => ?_)
    by_cases c : t' = t
    · rw [c, (opB_eq hk hp).2.1] at z2; exact absurd z2 hk2
    · rw [opB_ne (by omega)] at z1 z2
      exact ⟨⟨z1, z2⟩, opB_ne (by omega), opB_ne (by omega), opB_ne (by omega)⟩
  · rw [st2_ne (by unfold kpA at z; omega)]; exact raw a i (by unfold kpA at z; omega)
/-- what stays of the works in a tick -/
def YT (Y Y' : Ys) : Prop := (∀ a i, (a = 265 ∨ a = 266 ∨ a = 156) → yv Y' a i = yv Y a i) ∧ ∀ t, t < 12 → (∀ a, (a = 227 ∨ a = 228 ∨ a = 229) → yv Y' a t = yv Y a t) ∧ (yv Y 226 t = 0 → yv Y' 226 t = 0) ∧ (z9 Y t → z9 Y' t)
theorem YT.refl : YT Y Y := ⟨fun _ _ _ => rfl, fun _ _ => ⟨fun _ _ => rfl, id, id⟩⟩
theorem YT.trans (h : YT Y Y1) (h2 : YT Y1 Y') : YT Y Y' := ⟨fun a i z => (h2.1 a i z).trans (h.1 a i z), fun t ht => ⟨fun a z => ((h2.2 t ht).1 a z).trans ((h.2 t ht).1 a z), fun z => (h2.2 t ht).2.1 ((h.2 t ht).2.1 z), fun z => (h2.2 t ht).2.2 ((h.2 t ht).2.2 z)⟩⟩
theorem YT_r (h : YR Y Y') : YT Y Y' := ⟨fun a i z => h.1 a i (by omega), fun t ht => ⟨fun a z => h.1 a t (by omega), h.2.1 t, h.2.2 t ht⟩⟩
theorem YT_op (h12 : 12 ≤ t) : YT Y (opY t kind p Y) := ⟨fun a i z => op_ne (by omega), fun t' ht' => ⟨fun a z => op_ne (by omega), fun z => by rw [op_ne (by omega)]; exact z, fun z g k => by
  rw [op_ne (by omega)] at g k
  rw [op_ne (a := 229) (by omega), op_ne (by omega)]
  exact z g k⟩⟩
theorem j_back4 (hJ : JX M V m al N pa own sd ps sn pu rf tm tk pb as nb Lb LA dn KL k h lf b0 eg mn sto fa Z ev oth tn Y) (hCT : CTR N own nb K nS B lf b0 Z ev oth tn Y) (hN : 12 + N ≤ 44) (hal : al ≤ 8) (hK : K ≤ 130000000) (hnS : nS (12 + p) ≤ 70000) (hp : p < N) (h0 : yv Y 226 (12 + p) = 0) (hs : sn p ≤ tm) :
    ∃ M' V' Y', ((f_X13_from ((wa pa (12 + p) + 3 : Nat) : Int) 0 (sI M (pa p) 18 tm)).bind fun r1 => f_X11_start ((wa pa (12 + p) : Nat) : Int) ((pa p : Nat) : Int) r1.1 (-1) r1.2) = some M' ∧ ((s2 170 32 (p : Int) tm V).bind fun V1 => (f_X16_open ((12 + p : Nat) : Int) 4 (p : Int) V1).bind fun V2 => (f_X16_beginRefresh ((12 + p : Nat) : Int) V2).bind fun V3 => f_X16_proceed ((12 + p : Nat) : Int) V3) = some V' ∧ JD M' V' m al N pa own sd ps sn pu (fup rf p tm) tm tk pb as nb Lb LA dn KL k K (fup nS (12 + p) (nS (12 + p) + 1)) B Y' ∧ FK F11 M M' ∧ Kp1 V V' ∧ YT Y Y' ∧ EQ p (yw Y) (yw Y') := by
  have hB : bdg N ev oth := CTR_bdg hCT (by omega) (by omega)
  obtain ⟨t, hte⟩ : ∃ t, t = 12 + p := ⟨_, rfl⟩
  rw [← hte] at h0 hnS ⊢
  have t44 : t < 44 := by omega
  have ct := hCT.1 t t44
  obtain ⟨J1, g1, g2⟩ := j_rf hJ hN hp hs
  obtain ⟨j1, j2, j3, j4, j5, j6, j7⟩ := id J1
  obtain ⟨o1, o2, o3, o4⟩ := op_eq (t := t) (kind := 4) (p := p) (Y := Y) (by decide) (by omega)
  obtain ⟨hd, hyp⟩ := op_hd (t := t) (kind := 4) (Y := Y) (by decide) hp (by omega) hte
  obtain ⟨M2, lf2, eg2, x, a1, a2, a3, a4, a5⟩ := c_start4 (t := t) j1 (wE_h3 hN j3) j2.2.1 hp (by omega) hte (by omega)
  obtain ⟨v1, k1⟩ := vy_opB (t := t) (kind := 4) (p := p) j2 t44 (by omega) (by decide) (by decide) (by omega) (by omega)
  obtain ⟨V3, b1, b2, b3⟩ := v_beginRefresh v1 t44 (by rw [fup_eq]; omega) hd.2.1
  have okt : okT (own p) (wT (yw Y) p) := (j1.1.1.1.2.2.1.2.2.2.2.2 p hp).2.2.2.2.2.2.1
  have wbr := wOK_br (m := m) (Lb := Lb) (own := own) hd.1 hd.2.1 hd.2.2.1 hd.2.2.2 (Or.inr o2) (by
    rw [hyp]
    exact okW_clo (w := yw (opY t 4 p Y)) (ok_dt j2.2.1) (fun x hx => ⟨(okt.2.2 x hx).1, (okt.2.2 x hx).2.2⟩) hp)
  have fbr : FT t (opY t 4 p Y) (brY m own t (opY t 4 p Y)) := FT_br
  have eW : yw (brY m own t (opY t 4 p Y)) = dtW t (dtW t (yw Y)) := by
    unfold brY rfY
    split <;> rfl
  have s230 : yv (brY m own t (opY t 4 p Y)) 226 t ≠ 0 → yv (brY m own t (opY t 4 p Y)) 230 t = 1 := fun z => by
    unfold brY rfY at z ⊢
    split at z
    · exact absurd clS_0 z
    · rename_i c
      rw [if_neg c]; exact lk_1
  have n3 : yv (brY m own t (opY t 4 p Y)) 227 t = 4 := by rw [fbr.2.2.2.1.1]; exact o2
  have kk : KL.length ≤ 96 ∧ ∀ q, q < N → own q ∈ KL ∧ okTK KL (wT (yw (opY t 4 p Y)) q) := ⟨j6, fun q hq => j7 q hq⟩
  obtain ⟨M4, V4, Y4, h4, lf4, b4, eg4, mn4, sto4, fa4, tn4, c1, c2, c3, c4, c5, c6, c7, c8, c9, cP⟩ := j_begun (Yo := opY t 4 p Y) (k := k) (KL := KL) hN hal (by omega) hB (op_rec j1.1.2.2.2.1 (by omega)) hd (fun t' ht' hne => wE_o (j3 t' ht') hne (fun a _ _ _ _ => opB_ne (by omega)) (fun a i _ => opB_ne (by omega)) (fun _ _ => opB_ne (by omega))) (fun t' ht' hn => by rw [op_ne (by omega)]; exact j4 t' ht' hn) kk fbr ⟨wbr.1, fun z => ⟨wbr.2.1, ⟨fun z3 => by rw [s230 z] at z3; omega, fun z4 => by rw [s230 z] at z4; omega⟩⟩⟩ s230 a2 (fun t' ht' z1 z2 => by
    by_cases c : t' = t
    · rw [c, n3] at z2; omega
    · have e : ∀ a, 226 ≤ a → a ≤ 249 → yv (brY m own t (opY t 4 p Y)) a t' = yv Y a t' := fun a y1 y2 => (fbr.2.2.1 a t' (by unfold wrT; omega)).trans (op_ne (by omega))
      rw [e 226 (by omega) (by omega)] at z1
      rw [e 227 (by omega) (by omega)] at z2
      rw [e 247 (by omega) (by omega)]
      exact wE_h3 hN j3 t' ht' z1 z2) b2 (by rw [eW]; exact PI_dt (PI_dt j5)) a5 (by rw [fup_eq, fup_eq]; omega) (by have := a4.2.2; omega)
  refine ⟨M4, V4, Y4, a1.trans c1, ?_, ⟨h4, lf4, b4, eg4, mn4, sto4, fa4, Z, ev, oth, tn4, c3, ?_⟩, ((g1.mono (fun z hz => by rw [beq_iff_eq.mp hz]; rfl)).trans a3).trans c4, ?_, ?_, cP (EQ p (yw Y)) (by rw [hyp]; exact EQ_cl) (by rw [eW]; exact (EQ_cl (t := t) (N := N) (own := own) (sd := sd) (tm := tm)).1 _ ((EQ_cl (t := t) (N := N) (own := own) (sd := sd) (tm := tm)).1 _ .refl))⟩
  · rw [s2_n (by omega) (by decide), Option.bind_some, v_openB j2 t44 (by omega) (by decide) (by omega), Option.bind_some, b1, Option.bind_some]
    exact c2
  · have mo : ∀ t', t' < 44 → t' ≠ t → mu own Y4 t' = mu own Y t' := fun t' ht' hne => by
      rw [mu_ft (wE_o (j3 t' ht') hne (fun a _ _ _ _ => opB_ne (by omega)) (fun a i _ => opB_ne (by omega)) (fun _ _ => opB_ne (by omega))).1 c6 hne]
      exact mu_op hne
    refine CTR_start (Y := Y) t44 hCT h0 (by rw [if_neg (by omega)]; rfl) mo (fun t' hne => (FT_6 c6 hne).trans (op_ne (by omega))) (fun z hz => by rw [c8.1 z hz, fup_ne hz, fup_ne hz]) (fun z hz => by rw [c9.1 z hz, a4.1 z hz]) ?_ ?_ c7
    · have := c8.2; rw [fup_eq, fup_eq] at this; omega
    · have := c9.2; have := a4.2.2; omega
  · exact (Kp1_fr g2 rfl rfl).trans ((Kp1_kp k1).trans ((Kp1_kp b3).trans (Kp1_kp c5)))
  · exact (YT_op (by omega)).trans (YT_r (YR_ft c6 (by rw [o1]; decide) (op_rec j1.1.2.2.2.1 (by omega)) hd (fun z => by omega)))
end JBACK4
