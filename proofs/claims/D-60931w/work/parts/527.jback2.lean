/-! a publishing starts in the background, both sides -/
section JBACK2
variable {S : Nat → Bool} {M M1 : MM} {V V1 W sc : VV} {m al N p t t' nb nb' oth Z L k K kx n P lim : Nat} {pa tk : Nat → Nat} {own : Nat → Ky} {sd ps sn pu rf : Nat → Int} {tm x kind r : Int} {lf lf0 lf' : Nat → Nat} {b b0 b0' B : Nat × Nat} {h h' : Gh} {eg : EG} {pb as : Nat → Option Nat} {mn sto : Nat → Int} {fa : Nat → Nat} {Y Yo Y1 Y' : Ys} {Lb : Nat → List Trm} {LA : Nat → List Nat} {dn : Nat → Int} {ev tn tn0 tn' nS : Nat → Nat} {KL : List Ky}
theorem st2_comm {a i b j : Nat} {x y : Int} (hne : a ≠ b) : st2 (st2 V a i x) b j y = st2 (st2 V b j y) a i x := by
  funext c z
  by_cases c1 : c = a ∧ z = i
  · rw [st2_ne (fun e => hne (c1.1.symm.trans e.1)), c1.1, c1.2]; unfold st2; rw [if_pos ⟨rfl, rfl⟩, if_pos ⟨rfl, rfl⟩]
  · by_cases c2 : c = b ∧ z = j
    · rw [st2_ne c1, c2.1, c2.2]; unfold st2; rw [if_pos ⟨rfl, rfl⟩, if_pos ⟨rfl, rfl⟩]
    · rw [st2_ne c2, st2_ne c1, st2_ne c1, st2_ne c2]
theorem mu_o (v : ∀ a, 226 ≤ a → a ≤ 264 → yv Y1 a t' = yv Y a t') (hq : yq Y1 = yq Y) : mu own Y1 t' = mu own Y t' := by
  unfold mu
  rw [v 226 (by decide) (by decide), v 227 (by decide) (by decide), v 230 (by decide) (by decide), v 242 (by decide) (by decide), v 244 (by decide) (by decide), v 247 (by decide) (by decide), v 248 (by decide) (by decide), v 254 (by decide) (by decide), v 263 (by decide) (by decide), v 264 (by decide) (by decide), show yp Y1 t' = yp Y t' by unfold yp; rw [show vI (ys Y1) 228 t' = vI (ys Y) 228 t' from v 228 (by decide) (by decide)], hq]
/-- words of the reference when a publishing opens -/
def opW (t p lim : Nat) (tn : Int) (V : VV) : VV := st2 (st2 (st2 (st2 (opB t 2 p V) 231 t (tn + 1)) 243 t (lim : Int)) 244 t (-1)) 246 t 0
theorem vy_opP (h : VY V m al N own sd ps sn pu rf tm Lb oth Z ev tn Y) (ht : t < 44) (h12 : 12 ≤ t) (hp : p < 32) (hl : lim ≤ 16) (htn : tn t < 2000000000) : VY (opW t p lim (tn t) V) m al N own sd ps sn pu rf tm Lb oth Z ev (fup tn t (tn t + 1)) (opP t p (-1) lim Y) ∧ KpV V (opW t p lim (tn t) V) := by
  have raw : ∀ a i, ¬ ((a = 226 ∨ a = 227 ∨ a = 228 ∨ a = 229 ∨ a = 243 ∨ a = 244 ∨ a = 246 ∨ a = 231) ∧ i = t) → opW t p lim (tn t) V a i = V a i := fun a i z => by
    unfold opW opB
    rw [st2_ne (by omega), st2_ne (by omega), st2_ne (by omega), st2_ne (by omega), st2_ne (by omega), st2_ne (by omega), st2_ne (by omega), st2_ne (by omega)]
  have rv : ∀ a i, ¬ ((a = 226 ∨ a = 227 ∨ a = 228 ∨ a = 229 ∨ a = 243 ∨ a = 244 ∨ a = 246 ∨ a = 231) ∧ i = t) → vI (opW t p lim (tn t) V) a i = vI V a i := fun a i z => by show w32 _ = w32 _; rw [raw a i z]
  obtain ⟨o1, o2, o3, o4, o5, o6, o7⟩ := opP_eq (t := t) (p := p) (r := -1) (lim := lim) (Y := Y) hp (by decide) hl
  refine ⟨vy_op (sc := ys (opP t p (-1) lim Y)) h ht htn (fun a i z => ?_) (fun a i z => rv a i (by omega)) ?_ (fun a i z => rv a i (by omega)) ?_, KpV_ag (fun a i z => raw a i (by unfold kpA at z; omega))⟩
  · by_cases c : a = 231 ∧ i = t
    · rw [c.1, c.2]
      unfold opW
      rw [st2_ne (by omega), st2_ne (by omega), st2_ne (by omega)]
      unfold st2; rw [if_pos ⟨rfl, rfl⟩, if_pos ⟨rfl, rfl⟩]
    · rw [st2_ne c]; exact raw a i (by omega)
  · show ScV (opW t p lim (tn t) V) (st2 (st2 (st2 (opG t 2 p (-1) (ys Y)) 243 t _) 244 t (-1)) 246 t 0)
    unfold opW opG opB
    exact sc_st (sc_st (sc_st (sc_ne (sc_st (sc_st (sc_st (sc_st h.2.2.2.2.1)))) (by unfold scA; omega))))
  · intro t' ht' z1 z2
    by_cases c : t' = t
    · left
      rw [c]
      refine ⟨o6, ?_⟩
      unfold opW
      rw [vI_ne (by omega), vI_eq rfl]; rfl
    · have e : ∀ a, vI (ys (opP t p (-1) lim Y)) a t' = vI (ys Y) a t' := fun a => opP_ne (by omega)
      rw [e] at z1 z2
      have := h.2.2.2.2.2.2.2 t' ht' z1 z2
      unfold TmR at this ⊢
      rw [e, e, e, rv 244 t' (by omega)]
      rcases this with k | ⟨x, j, k1, k2, k3, k4, k5⟩
      · exact Or.inl k
      · exact Or.inr ⟨x, j, k1, k2, k3, k4, by rw [gT_ext (fun a i z => rv a i (by omega))]; exact k5⟩
theorem YT_opP (h12 : 12 ≤ t) : YT Y (opP t p r lim Y) := ⟨fun a i z => opP_ne (by omega), fun t' ht' => ⟨fun a z => opP_ne (by omega), fun z => by rw [opP_ne (by omega)]; exact z, fun z g k => by
  rw [opP_ne (by omega)] at g k
  rw [opP_ne (a := 229) (by omega), opP_ne (by omega)]
  exact z g k⟩⟩
theorem j_back2 (hJ : JX M V m al N pa own sd ps sn pu rf tm tk pb as nb Lb LA dn KL k h lf b0 eg mn sto fa Z ev oth tn Y) (hCT : CTR N own nb K nS B lf b0 Z ev oth tn Y) (hN : 12 + N ≤ 44) (hal : al ≤ 8) (hK : K ≤ 130000000) (hnS : nS (12 + p) ≤ 70000) (hp : p < N) (h0 : yv Y 226 (12 + p) = 0) (hs : sn p ≤ tm) (hpb : pb (12 + p) = some P) (hdn : dn p = (lim : Int)) (hdv : vI V 173 p = (lim : Int)) (hl : lim ≤ 16) :
    ∃ M' V' Y', f_X11_start ((wa pa (12 + p) : Nat) : Int) ((pa p : Nat) : Int) (P : Int) (-1) M = some M' ∧ f_X16_beginPublish ((12 + p : Nat) : Int) (p : Int) V = some V' ∧ JD M' V' m al N pa own sd ps sn (fup pu p tm) rf tm tk pb as nb Lb LA dn KL k K (fup nS (12 + p) (nS (12 + p) + 1)) B Y' ∧ FK F11 M M' ∧ Kp1 V V' ∧ YT Y Y' ∧ EQ p (yw Y) (yw Y') := by
  have hB : bdg N ev oth := CTR_bdg hCT (by omega) (by omega)
  obtain ⟨t, hte⟩ : ∃ t, t = 12 + p := ⟨_, rfl⟩
  rw [← hte] at h0 hnS hpb ⊢
  have t44 : t < 44 := by omega
  have ct := hCT.1 t t44
  obtain ⟨j1, j2, j3, j4, j5, j6, j7⟩ := id hJ
  obtain ⟨Yo, hYo⟩ : ∃ Yo, Yo = opP t p (-1) lim Y := ⟨_, rfl⟩
  obtain ⟨o1, o2, o3, o4, o5, o6, o7⟩ := opP_eq (t := t) (p := p) (r := -1) (lim := lim) (Y := Y) (by omega) (by decide) hl
  have yne : ∀ {a i : Nat}, ¬ ((a = 226 ∨ a = 227 ∨ a = 228 ∨ a = 229 ∨ a = 243 ∨ a = 244 ∨ a = 246) ∧ i = t) → yv Yo a i = yv Y a i := fun hz => by rw [hYo]; exact opP_ne hz
  rw [← hYo] at o1 o2 o3 o4 o5 o6 o7
  have hyp : yp Yo t = p := by unfold yp; show (yv Yo 228 t).toNat = p; omega
  have hd : hdW N Yo t := ⟨o1, ⟨by omega, Or.inl o4⟩, by omega, fun _ => ⟨o4, by omega⟩⟩
  have rc : recY nb Yo := by
    refine ⟨j1.1.2.2.2.1.1, fun t' ht' z => ?_⟩
    rw [yne (by omega)] at z
    obtain ⟨a1, a2, a3⟩ := j1.1.2.2.2.1.2 t' ht' z
    refine ⟨by rw [yne (by omega)]; exact a1, by rw [yne (a := 229) (by omega), yne (by omega), yne (by omega)]; exact a2, fun t'' h'' hne z'' => ?_⟩
    rw [yne (by omega)] at z''
    rw [yne (by omega), yne (by omega)]
    exact a3 t'' h'' hne z''
  have eYo : ((dtW t (yw Y), yl Y, ys Yo, yq Y) : Ys) = Yo := by rw [hYo]; rfl
  obtain ⟨M2, lf2, eg2, x, a1, a2, a3, a4, a5⟩ := c_start2 (t := t) (r := -1) (x3 := -1) j1 (wE_h3 hN j3) j2.2.1 (by omega) hp (by omega) hpb hdn hl hs (by omega) (by decide) rfl (by rw [← hYo]; exact rc) (by rw [← hYo]; exact hd) (fun z => absurd z (by decide))
  rw [← hYo] at a2 a5
  -- the reference
  obtain ⟨v1, k1⟩ := vy_opP (t := t) (p := p) (lim := lim) j2 t44 (by omega) (by omega) hl (by omega)
  rw [← hYo] at v1
  obtain ⟨L1, hP1, hL1⟩ := v1.1
  obtain ⟨p1, p2⟩ := vp_pu (p := p) hP1 (by omega)
  have v2 : VY (st2 (opW t p lim (tn t) V) 169 p tm) m al N own sd ps sn (fup pu p tm) rf tm Lb oth Z ev (fup tn t (tn t + 1)) Yo := vy_p v1 (FrV.mono p2 G5_5) p1 hL1 v1.2.1 v1.2.2.1
  obtain ⟨V3, b1, b2, b3⟩ := v_nextTerm v2 t44 (by rw [fup_eq]; omega) hd.2.1 (by rw [o1]; decide) o2 (by omega)
  have okl : (Lb (yp Yo t)).length ≤ 64 := (j2.2.2.2.2.2.2.1 (yp Yo t) (by rw [hyp]; omega)).2.1.1
  have wn := wOK_nxt (m := m) (own := own) hd.1 hd.2.1 hd.2.2.1 hd.2.2.2 o2 (by omega) (by omega) (Or.inl o7) okl
  have fn : FT t Yo (nxtY m own Lb t Yo) := FT_nxt
  have eW : yw (nxtY m own Lb t Yo) = dtW t (yw Yo) := by unfold nxtY; split <;> rfl
  have eW2 : yw Yo = dtW t (yw Y) := by rw [← eYo]
  have n2 : yv (nxtY m own Lb t Yo) 227 t = 2 := by rw [fn.2.2.2.1.1]; exact o2
  have wo : ∀ t', t' < 44 → t' ≠ t → wE N own Lb Yo t' := fun t' ht' hne => by
    rw [← eYo]
    exact wE_o (j3 t' ht') hne (fun a _ _ _ _ => yne (by omega)) (fun a i _ => yne (by omega)) (fun _ _ => yne (by omega))
  have kk : KL.length ≤ 96 ∧ ∀ q, q < N → own q ∈ KL ∧ okTK KL (wT (yw Yo) q) := ⟨j6, fun q hq => by rw [eW2]; exact j7 q hq⟩
  have pi1 : PI KL tm (wT (yw Yo)) k (yw (nxtY m own Lb t Yo)) := by rw [eW, eW2]; exact PI_dt (PI_dt j5)
  obtain ⟨M4, V4, Y4, h4, lf4, b4, eg4, mn4, sto4, fa4, tn4, c1, c2, c3, c4, c5, c6, c7, c8, c9, cP⟩ := j_begun (Yo := Yo) (k := k) (KL := KL) hN hal (by omega) hB rc hd wo (fun t' ht' hn => by rw [yne (by omega)]; exact j4 t' ht' hn) kk fn ⟨wn.1, fun z => ⟨wn.2.1, ⟨fun z3 => by rw [nxt_230 z] at z3; omega, fun z4 => by rw [nxt_230 z] at z4; omega⟩⟩⟩ nxt_230 a2 (fun t' ht' z1 z2 => by
    by_cases c : t' = t
    · rw [c, n2] at z2; omega
    · have e : ∀ a, 226 ≤ a → a ≤ 249 → yv (nxtY m own Lb t Yo) a t' = yv Y a t' := fun a y1 y2 => (fn.2.2.1 a t' (by unfold wrT; omega)).trans (yne (by omega))
      rw [e 226 (by omega) (by omega)] at z1
      rw [e 227 (by omega) (by omega)] at z2
      rw [e 247 (by omega) (by omega)]
      exact wE_h3 hN j3 t' ht' z1 z2) b2 pi1 a5 (by rw [fup_eq, fup_eq]; omega) (by have := a4.2.2; omega)
  refine ⟨M4, V4, Y4, a1.trans c1, ?_, ⟨h4, lf4, b4, eg4, mn4, sto4, fa4, Z, ev, oth, tn4, c3, ?_⟩, a3.trans c4, ?_, ?_, cP (EQ p (yw Y)) (by rw [hyp]; exact EQ_cl) (by rw [eW, eW2]; exact (EQ_cl (t := t) (N := N) (own := own) (sd := sd) (tm := tm)).1 _ ((EQ_cl (t := t) (N := N) (own := own) (sd := sd) (tm := tm)).1 _ .refl))⟩
  · unfold f_X16_beginPublish
    have tm1 : w32 (st2 (opB t 2 p V) 231 t ((tn t : Int) + 1) 156 11) = tm := by
      rw [st2_ne (by omega)]
      unfold opB
      rw [st2_ne (by omega), st2_ne (by omega), st2_ne (by omega), st2_ne (by omega)]
      obtain ⟨L0, hP0, _⟩ := j2.1
      exact hP0.1.2.1
    have e73 : vI (st2 (st2 (opB t 2 p V) 231 t ((tn t : Int) + 1)) 169 p tm) 173 p = (lim : Int) := by
      rw [vI_ne (by omega), vI_ne (by omega), opB_ne (by omega)]; exact hdv
    rw [v_openB j2 t44 (by omega) (by decide) (by omega), Option.bind_some, tm1, s2_n (by omega) (by decide), Option.bind_some, l2_n (by omega) (by decide), Option.bind_some, e73, s2_n t44 (by decide), Option.bind_some, s2_n t44 (by decide), Option.bind_some, s2z_n t44 (by decide) (Or.inl rfl), Option.bind_some]
    have eq : st2 (st2 (st2 (st2 (st2 (opB t 2 p V) 231 t ((tn t : Int) + 1)) 169 p tm) 243 t (lim : Int)) 244 t (-1)) 246 t 0 = st2 (opW t p lim (tn t) V) 169 p tm := by
      unfold opW
      rw [st2_comm (a := 169) (b := 243) (by decide), st2_comm (a := 169) (b := 244) (by decide), st2_comm (a := 169) (b := 246) (by decide)]
    rw [eq, b1, Option.bind_some, c2]
    rfl
  · have mo : ∀ t', t' < 44 → t' ≠ t → mu own Y4 t' = mu own Y t' := fun t' ht' hne => by
      rw [mu_ft (wo t' ht' hne).1 c6 hne]
      exact mu_o (fun a _ _ => yne (by omega)) (by rw [← eYo])
    refine CTR_start (Y := Y) t44 hCT h0 (by rw [if_neg (by omega)]; rfl) mo (fun t' hne => (FT_6 c6 hne).trans (yne (by omega))) (fun z hz => by rw [c8.1 z hz, fup_ne hz, fup_ne hz]) (fun z hz => by rw [c9.1 z hz, a4.1 z hz]) ?_ ?_ c7
    · have := c8.2; rw [fup_eq, fup_eq] at this; omega
    · have := c9.2; have := a4.2.2; omega
  · exact (Kp1_kp k1).trans ((Kp1_fr p2 rfl rfl).trans ((Kp1_kp b3).trans (Kp1_kp c5)))
  · refine YT.trans ?_ (YT_r (YR_ft c6 (by rw [o1]; decide) rc hd (fun z => by omega)))
    rw [hYo]; exact YT_opP (by omega)
end JBACK2
