/-! a caller's publishing begins, both sides -/
section JBEGIN2
variable {S : Nat → Bool} {M M1 : MM} {V V1 W sc : VV} {m al N p t t' nb oth Z L k K kx n P lim : Nat} {pa tk : Nat → Nat} {own : Nat → Ky} {sd ps sn pu rf : Nat → Int} {tm x kind r : Int} {lf lf0 lf' : Nat → Nat} {b b0 b0' B : Nat × Nat} {h h' : Gh} {eg : EG} {pb as : Nat → Option Nat} {mn sto : Nat → Int} {fa : Nat → Nat} {Y Yo Y1 Y' : Ys} {Lb : Nat → List Trm} {LA : Nat → List Nat} {dn : Nat → Int} {ev tn tn0 tn' nS : Nat → Nat} {KL : List Ky} {key : Ky}
def opXP (t p r lim : Nat) (Y : Ys) : Ys := opP t p (r : Int) lim (recZ r 2 p Y)
theorem opXP_ne {r a i : Nat} (h1 : ¬ ((a = 226 ∨ a = 227 ∨ a = 228 ∨ a = 229 ∨ a = 243 ∨ a = 244 ∨ a = 246) ∧ i = t)) (h2 : ¬ ((265 ≤ a ∧ a ≤ 269) ∧ i = r)) (h3 : ¬ (a = 156 ∧ i = 91)) : yv (opXP t p r lim Y) a i = yv Y a i := (opP_ne h1).trans (recS_ne h2 h3)
theorem opP_reads {r : Nat} (a i : Nat) : vI (ys (opXP t p r lim Y)) a i = vI (st2 (st2 (st2 (st2 (opA0 t 2 p r (ys Y)) 243 t (lim : Int)) 244 t (-1)) 246 t 0) 156 91 ((r : Int) + 1)) a i := by
  show vI (st2 (st2 (st2 (opG t 2 p (r : Int) (recS r 2 p (ys Y))) 243 t (lim : Int)) 244 t (-1)) 246 t 0) a i = _
  by_cases c : a = 156 ∧ i = 91
  · rw [vI_ne (by omega), vI_ne (by omega), vI_ne (by omega), op_reads, vI_st2, if_pos c, vI_st2, if_pos c]
  · rw [vI_ne (a := 156) c]
    simp only [vI_st2 (a := 243), vI_st2 (a := 244), vI_st2 (a := 246), op_reads]
    rw [vI_ne (a := 156) c]
theorem opXP_eq {r : Nat} (hp : p < 32) (hr : r < 256) (hl : lim ≤ 16) : (yv (opXP t p r lim Y) 226 t = 1 ∧ yv (opXP t p r lim Y) 227 t = 2 ∧ yv (opXP t p r lim Y) 228 t = (p : Int) ∧ yv (opXP t p r lim Y) 229 t = (r : Int) ∧ yv (opXP t p r lim Y) 243 t = (lim : Int) ∧ yv (opXP t p r lim Y) 244 t = -1 ∧ yv (opXP t p r lim Y) 246 t = 0) ∧ (yv (opXP t p r lim Y) 265 r = 2 ∧ yv (opXP t p r lim Y) 269 r = 0 ∧ yv (opXP t p r lim Y) 156 91 = ((r + 1 : Nat) : Int)) := by
  refine ⟨opP_eq hp (by omega) hl, ?_⟩
  have e : ∀ a i, 250 ≤ a ∨ a = 156 → yv (opXP t p r lim Y) a i = vI (recS r 2 p (ys Y)) a i := fun a i z => opP_ne (by omega)
  obtain ⟨q1, q2, q3, q4, q5, q6⟩ := recS_eq (nb := r) (sc := ys Y) (kind := 2) (by decide) hp hr
  exact ⟨by rw [e _ _ (by omega)]; exact q1, by rw [e _ _ (by omega)]; exact q5, by rw [e _ _ (by omega)]; exact q6⟩
theorem opXP_ok (hJ : JX M V m al N pa own sd ps sn pu rf tm tk pb as nb Lb LA dn KL k h lf b0 eg mn sto fa Z ev oth tn Y) (hN : 12 + N ≤ 44) (ht : t < 12) (h0 : yv Y 226 t = 0) (hp : p < N) (hn : nb < 256) (hl : lim ≤ 16) : hdW N (opXP t p nb lim Y) t ∧ recY (nb + 1) (opXP t p nb lim Y) ∧ (∀ t', t' < 44 → t' ≠ t → wE N own Lb (opXP t p nb lim Y) t') ∧ yw (opXP t p nb lim Y) = dtW t (yw Y) := by
  obtain ⟨⟨o1, o2, o3, o4, o4a, o4b, o4c⟩, o5, o9, o10⟩ := opXP_eq (t := t) (Y := Y) (show p < 32 by omega) hn hl
  have hrec := hJ.1.1.2.2.2.1
  have xn : ∀ a i, a ≤ 264 → ¬ ((a = 226 ∨ a = 227 ∨ a = 228 ∨ a = 229 ∨ a = 243 ∨ a = 244 ∨ a = 246) ∧ i = t) → a ≠ 156 → yv (opXP t p nb lim Y) a i = yv Y a i := fun a i h1 h2 h3 => opXP_ne h2 (by omega) (by omega)
  refine ⟨⟨o1, ⟨by omega, Or.inr ⟨by omega, by omega⟩⟩, fun _ => by omega, by omega⟩, ⟨by omega, fun t' ht' z => ?_⟩, fun t' ht' hne => ?_, rfl⟩
  · by_cases c : t' = t
    · rw [c, o4, o2]
      refine ⟨by omega, by rw [Int.toNat_natCast]; exact o5, fun t'' h'' hne z'' => ?_⟩
      rw [xn 226 t'' (by omega) (by omega) (by omega)] at z''
      rw [xn 229 t'' (by omega) (by omega) (by omega)]
      have := (hrec.2 t'' h'' z'').1
      omega
    · rw [xn 226 t' (by omega) (by omega) (by omega)] at z
      obtain ⟨r1, r2, r3⟩ := hrec.2 t' ht' z
      rw [xn 229 t' (by omega) (by omega) (by omega), xn 227 t' (by omega) (by omega) (by omega)]
      refine ⟨by omega, ?_, fun t'' h'' hne z'' => ?_⟩
      · rw [opXP_ne (by omega) (by omega) (by omega)]; exact r2
      · by_cases c2 : t'' = t
        · rw [c2, o4]; omega
        · rw [xn 226 t'' (by omega) (by omega) (by omega)] at z''
          rw [xn 229 t'' (by omega) (by omega) (by omega)]
          exact r3 t'' h'' hne z''
  · have w := wE_o (Y := Y) (t := t) (sc := ys (opXP t p nb lim Y)) (hJ.2.2.1 t' ht') hne (fun a h1 h2 _ _ => xn a t' (by omega) (by omega) (by omega)) (fun a i ha => xn a i (by omega) (by omega) (by omega)) (fun z h12 => by
      have r1 := (hrec.2 t' h12 (by rw [z]; decide)).1
      exact opXP_ne (a := 269) (i := (yv Y 229 t').toNat) (by omega) (by omega) (by omega))
    exact w
/-- words of the reference when a caller's publishing opens -/
def opWA (t p r lim : Nat) (tn : Int) (V : VV) : VV := st2 (st2 (st2 (opAV t 2 p r tn V) 243 t (lim : Int)) 244 t (-1)) 246 t 0
theorem vy_opPA (h : VY V m al N own sd ps sn pu rf tm Lb oth Z ev tn Y) (ht : t < 12) (hp : p < 32) (hn : nb < 256) (hl : lim ≤ 16) (htn : tn t < 2000000000) : VY (st2 (opWA t p nb lim (tn t) V) 156 91 ((nb : Int) + 1)) m al N own sd ps sn pu rf tm Lb oth Z ev (fup tn t (tn t + 1)) (opXP t p nb lim Y) ∧ KpV V (st2 (opWA t p nb lim (tn t) V) 156 91 ((nb : Int) + 1)) := by
  have raw : ∀ a i, ¬ ((a = 226 ∨ a = 227 ∨ a = 228 ∨ a = 229 ∨ a = 231 ∨ a = 243 ∨ a = 244 ∨ a = 246) ∧ i = t) → ¬ ((265 ≤ a ∧ a ≤ 269) ∧ i = nb) → opWA t p nb lim (tn t) V a i = V a i := fun a i z1 z2 => by
    unfold opWA opAV opB
    rw [st2_ne (by omega), st2_ne (by omega), st2_ne (by omega), st2_ne (by omega), st2_ne (by omega), st2_ne (by omega), st2_ne (by omega), st2_ne (by omega), st2_ne (by omega), st2_ne (by omega), st2_ne (by omega), st2_ne (by omega), st2_ne (by omega), st2_ne (by omega)]
  have rv : ∀ a i, ¬ ((a = 226 ∨ a = 227 ∨ a = 228 ∨ a = 229 ∨ a = 231 ∨ a = 243 ∨ a = 244 ∨ a = 246) ∧ i = t) → ¬ ((265 ≤ a ∧ a ≤ 269) ∧ i = nb) → vI (opWA t p nb lim (tn t) V) a i = vI V a i := fun a i z1 z2 => by show w32 _ = w32 _; rw [raw a i z1 z2]
  obtain ⟨sc0, hsc0⟩ : ∃ sc0, sc0 = st2 (st2 (st2 (opA0 t 2 p nb (ys Y)) 243 t (lim : Int)) 244 t (-1)) 246 t 0 := ⟨_, rfl⟩
  have s0 : ScV (opWA t p nb lim (tn t) V) sc0 := by
    rw [hsc0]
    unfold opWA opAV opA0 opB
    exact sc_st (sc_st (sc_st (sc_st (sc_st (sc_st (sc_st (sc_st (sc_st (sc_ne (sc_st (sc_st (sc_st (sc_st h.2.2.2.2.1)))) (by unfold scA; omega))))))))))
  have rs : ∀ a i, a ≠ 156 → vI sc0 a i = yv (opXP t p nb lim Y) a i := fun a i z => by
    have := opP_reads (t := t) (p := p) (r := nb) (lim := lim) (Y := Y) a i
    rw [vI_ne (a := 156) (fun e => z e.1), ← hsc0] at this
    exact this.symm
  obtain ⟨⟨o1, o2, o3, o4, o4a, o4b, o4c⟩, _⟩ := opXP_eq (t := t) (p := p) (r := nb) (lim := lim) (Y := Y) hp hn hl
  have tm0 : TmV (opWA t p nb lim (tn t) V) sc0 Lb := fun t' ht' z1 z2 => by
    by_cases c : t' = t
    · left
      rw [c, rs _ _ (by decide)]
      refine ⟨o4b, ?_⟩
      unfold opWA
      rw [vI_ne (by omega), vI_eq rfl]; rfl
    · have e : ∀ a, a ≤ 250 → a ≠ 156 → vI sc0 a t' = vI (ys Y) a t' := fun a ha h1 => (rs a t' h1).trans (opXP_ne (by omega) (by omega) (by omega))
      rw [e _ (by decide) (by decide)] at z1 z2
      have := h.2.2.2.2.2.2.2 t' ht' z1 z2
      unfold TmR at this ⊢
      rw [e _ (by decide) (by decide), e _ (by decide) (by decide), e _ (by decide) (by decide), rv 244 t' (by omega) (by omega)]
      rcases this with k | ⟨x, j, k1, k2, k3, k4, k5⟩
      · exact Or.inl k
      · exact Or.inr ⟨x, j, k1, k2, k3, k4, by rw [gT_ext (fun a i z => rv a i (by omega) (by omega))]; exact k5⟩
  have v0 : VY (opWA t p nb lim (tn t) V) m al N own sd ps sn pu rf tm Lb oth Z ev (fup tn t (tn t + 1)) (dtW t (yw Y), yl Y, sc0, yq Y) := vy_op h (by omega) htn (fun a i z => by
    by_cases c : a = 231 ∧ i = t
    · rw [c.1, c.2]
      unfold opWA opAV
      rw [st2_ne (by omega), st2_ne (by omega), st2_ne (by omega), st2_ne (by omega), st2_ne (by omega), st2_ne (by omega), st2_ne (by omega), st2_ne (by omega), st2_ne (by omega)]
      unfold st2; rw [if_pos ⟨rfl, rfl⟩, if_pos ⟨rfl, rfl⟩]
    · rw [st2_ne c]; exact raw a i (by omega) (by omega)) (fun a i z => rv a i (by omega) (by omega)) s0 (fun a i z => rv a i (by omega) (by omega)) tm0
  have v1 := vy_91 (v := (nb : Int) + 1) v0
  refine ⟨vy_sc (w := dtW t (yw Y)) (l := yl Y) (sc := st2 sc0 156 91 ((nb : Int) + 1)) (sc' := ys (opXP t p nb lim Y)) (q := yq Y) v1 (fun a i => ?_), KpV_ag (fun a i z => ?_)⟩
  · have := opP_reads (t := t) (p := p) (r := nb) (lim := lim) (Y := Y) a i
    rw [← hsc0] at this
    exact this
  · rw [st2_ne (by unfold kpA at z; omega)]
    exact raw a i (by unfold kpA at z; omega) (by unfold kpA at z; omega)
theorem j_begin2 (hJ : JX M V m al N pa own sd ps sn pu rf tm tk pb as nb Lb LA dn KL k h lf b0 eg mn sto fa Z ev oth tn Y) (hCT : CTR N own nb K nS B lf b0 Z ev oth tn Y) (hX : XC M nb tk) (hN : 12 + N ≤ 44) (hal : al ≤ 8) (hK : K ≤ 130000000) (hnS : nS t ≤ 70000) (hp : p < N) (ht : t < 12) (h0 : yv Y 226 t = 0) (hs : sn p ≤ tm) (hn : nb < 256) (h91 : yv Y 156 91 = (nb : Int)) (hpb : pb t = some P) (hdn : dn p = (lim : Int)) (hdv : vI V 173 p = (lim : Int)) (hl : lim ≤ 16) :
    ∃ M' V' Y', f_X1_begin ((0 : Nat) : Int) ((wa pa t : Nat) : Int) (p : Int) 2 (P : Int) M = some ((nb : Int), M') ∧ f_X16_beginPublish (t : Int) (p : Int) V = some V' ∧ JD M' V' m al N pa own sd ps sn (fup pu p tm) rf tm (fup tk nb (nN M)) pb as (nb + 1) Lb LA dn KL k K (fup nS t (nS t + 1)) (B.1 + 1, B.2 + 7) Y' ∧ XC M' (nb + 1) (fup tk nb (nN M)) ∧ FK FH M M' ∧ Kp1 V V' ∧ FT t (opXP t p nb lim Y) Y' ∧ EQ p (yw Y) (yw Y') := by
  have hB : bdg N ev oth := CTR_bdg hCT (by omega) (by omega)
  have t44 : t < 44 := by omega
  have ct := hCT.1 t t44
  obtain ⟨j1, j2, j3, j4, j5, j6, j7⟩ := id hJ
  have h3 := wE_h3 hN j3
  have h29 := (opX_ok (kind := 2) (t := t) (p := p) hJ hN ht h0 (by decide) hp hn).2.2.2.2
  obtain ⟨hd, rc, wo, ewo⟩ := opXP_ok (t := t) (p := p) (lim := lim) hJ hN ht h0 hp hn hl
  obtain ⟨⟨o1, o2, o3, o4, o4a, o4b, o4c⟩, o5, o9, o10⟩ := opXP_eq (t := t) (p := p) (r := nb) (lim := lim) (Y := Y) (by omega) hn hl
  obtain ⟨M1, m1, c1, x1, f1⟩ := c_rec (kind := 2) (p := p) j1 hX h3 h29 hn (by decide) (by omega)
  have hu1 := c1.1.1.2.1.1
  have rz : ∀ b i, b ≤ 250 → b ≠ 156 → yv (recZ nb 2 p Y) b i = yv Y b i := fun b i q1 q2 => recS_ne (by omega) (by omega)
  obtain ⟨M2, lf2, eg2, x, a1, a2, a3, a4, a5⟩ := c_start2 (t := t) (r := (nb : Int)) (x3 := ((nN M : Nat) : Int)) c1 (fun t' ht' z1 z2 => by
    rw [rz _ _ (by decide) (by decide)] at z1 z2 ⊢
    exact h3 t' ht' z1 z2) j2.2.1 (by omega) hp (by omega) hpb hdn hl hs (by omega) (by omega) (by rw [if_neg (by omega), Int.toNat_natCast, fup_eq]) rc hd (fun _ => by rw [Int.toNat_natCast]; exact (recS_eq (nb := nb) (sc := ys Y) (kind := 2) (by decide) (show p < 32 by omega) hn).2.2.2.2.1)
  have a2 : CW M2 m al N pa own sd ps sn (fup pu p tm) rf tm lf2 (b0.1 + 1, b0.2 + 7) eg2 (fup tk nb (nN M)) pb as (nb + 1) (fup mn nb 0) fa Lb LA dn (fup sto t 0) (nxtY m own Lb t (opXP t p nb lim Y)) h := a2
  have a5 : x = b2i (decide (yv (nxtY m own Lb t (opXP t p nb lim Y)) 226 t ≠ 0)) := a5
  obtain ⟨Yo, hYo⟩ : ∃ Yo, Yo = opXP t p nb lim Y := ⟨_, rfl⟩
  have yne : ∀ a i, a ≤ 264 → ¬ ((a = 226 ∨ a = 227 ∨ a = 228 ∨ a = 229 ∨ a = 243 ∨ a = 244 ∨ a = 246) ∧ i = t) → a ≠ 156 → yv Yo a i = yv Y a i := fun a i q1 q2 q3 => by rw [hYo]; exact opXP_ne q2 (by omega) (by omega)
  -- the reference
  obtain ⟨v1, k1⟩ := vy_opPA (t := t) (p := p) (nb := nb) (lim := lim) j2 ht (by omega) hn hl (by omega)
  rw [← hYo] at hd rc wo ewo o1 o2 o3 o4 o4a o4b o4c a2 a5 v1 ⊢
  have hyp : yp Yo t = p := by unfold yp; show (yv Yo 228 t).toNat = p; omega
  obtain ⟨L1, hP1, hL1⟩ := v1.1
  obtain ⟨p1, p2⟩ := vp_pu (p := p) hP1 (by omega)
  have v2 := vy_p v1 (FrV.mono p2 G5_5) p1 hL1 v1.2.1 v1.2.2.1
  have v2 : VY (st2 (st2 (opWA t p nb lim (tn t) V) 156 91 ((nb : Int) + 1)) 169 p tm) m al N own sd ps sn (fup pu p tm) rf tm Lb oth Z ev (fup tn t (tn t + 1)) Yo := v2
  obtain ⟨V3, b1, b2, b3⟩ := v_nextTerm v2 t44 (by rw [fup_eq]; omega) hd.2.1 (by rw [o1]; decide) o2 (by omega)
  have okl : (Lb (yp Yo t)).length ≤ 64 := (j2.2.2.2.2.2.2.1 (yp Yo t) (by rw [hyp]; omega)).2.1.1
  have wn := wOK_nxt (m := m) (own := own) hd.1 hd.2.1 hd.2.2.1 hd.2.2.2 o2 (by omega) (by omega) (Or.inl o4c) okl
  have fn : FT t Yo (nxtY m own Lb t Yo) := FT_nxt
  have eW : yw (nxtY m own Lb t Yo) = dtW t (yw Yo) := by unfold nxtY; split <;> rfl
  have n2 : yv (nxtY m own Lb t Yo) 227 t = 2 := by rw [fn.2.2.2.1.1]; exact o2
  have kk : KL.length ≤ 96 ∧ ∀ q, q < N → own q ∈ KL ∧ okTK KL (wT (yw Yo) q) := ⟨j6, fun q hq => by rw [ewo]; exact j7 q hq⟩
  have pi1 : PI KL tm (wT (yw Yo)) k (yw (nxtY m own Lb t Yo)) := by rw [eW, ewo]; exact PI_dt (PI_dt j5)
  obtain ⟨M4, V4, Y4, h4, lf4, b4, eg4, mn4, sto4, fa4, tn4, c1', c2, c3, c4, c5, c6, c7, c8, c9, cP⟩ := j_begun (Yo := Yo) (k := k) (KL := KL) hN hal (by omega) hB rc hd wo (fun t' ht' hq => by rw [yne _ _ (by omega) (by omega) (by omega)]; exact j4 t' ht' hq) kk fn ⟨wn.1, fun z => ⟨wn.2.1, ⟨fun z3 => by rw [nxt_230 z] at z3; omega, fun z4 => by rw [nxt_230 z] at z4; omega⟩⟩⟩ nxt_230 a2 (fun t' ht' z1 z2 => by
    by_cases c : t' = t
    · rw [c, n2] at z2; omega
    · have e : ∀ a, 226 ≤ a → a ≤ 249 → yv (nxtY m own Lb t Yo) a t' = yv Y a t' := fun a y1 y2 => (fn.2.2.1 a t' (by unfold wrT; omega)).trans (yne _ _ (by omega) (by omega) (by omega))
      rw [e 226 (by omega) (by omega)] at z1
      rw [e 227 (by omega) (by omega)] at z2
      rw [e 247 (by omega) (by omega)]
      exact h3 t' ht' z1 z2) b2 pi1 a5 (by rw [fup_eq, fup_eq]; omega) (by have := a4.2.2; omega)
  have fM : FK FH M M4 := ((f1.mono (fun z hz => by rw [beq_iff_eq.mp hz]; rfl)).trans (a3.mono FH_11)).trans (c4.mono FH_11)
  refine ⟨M4, V4, Y4, ?_, ?_, ⟨h4, lf4, b4, eg4, mn4, sto4, fa4, Z, ev, oth, tn4, c3, ?_⟩, XC_fk (a3.trans c4) hu1 rfl x1, fM, ?_, c6, cP (EQ p (yw Y)) (by rw [hyp]; exact EQ_cl) (by rw [eW, ewo]; exact (EQ_cl (t := t) (N := N) (own := own) (sd := sd) (tm := tm)).1 _ ((EQ_cl (t := t) (N := N) (own := own) (sd := sd) (tm := tm)).1 _ .refl))⟩
  · rw [c_begin (kx := P) (t := t) hX m1 x1 c1.1.1.1.1 hp (c1.1.1.2.1.2.2.1 t (by omega)).1.1 hn, a1, c1']
    rfl
  · unfold f_X16_beginPublish
    obtain ⟨L0, hP0, _⟩ := j2.1
    have tm1 : w32 (st2 (opAV t 2 p nb (tn t) V) 156 91 ((nb : Int) + 1) 156 11) = tm := by
      rw [st2_ne (by decide)]
      unfold opAV opB
      rw [st2_ne (by omega), st2_ne (by omega), st2_ne (by omega), st2_ne (by omega), st2_ne (by omega), st2_ne (by omega), st2_ne (by omega), st2_ne (by omega), st2_ne (by omega), st2_ne (by omega), st2_ne (by omega)]
      exact hP0.1.2.1
    have e73 : vI (st2 (st2 (opAV t 2 p nb (tn t) V) 156 91 ((nb : Int) + 1)) 169 p tm) 173 p = (lim : Int) := by
      rw [vI_ne (by omega), vI_ne (by omega)]
      unfold opAV opB
      rw [vI_ne (by omega), vI_ne (by omega), vI_ne (by omega), vI_ne (by omega), vI_ne (by omega), vI_ne (by omega), vI_ne (by omega), vI_ne (by omega), vI_ne (by omega), vI_ne (by omega), vI_ne (by omega)]
      exact hdv
    rw [v_openA j2 ht h91 hn (by omega), Option.bind_some, tm1, s2_n (by omega) (by decide), Option.bind_some, l2_n (by omega) (by decide), Option.bind_some, e73, s2_n t44 (by decide), Option.bind_some, s2_n t44 (by decide), Option.bind_some, s2z_n t44 (by decide) (Or.inl rfl), Option.bind_some]
    have eq : st2 (st2 (st2 (st2 (st2 (opAV t 2 p nb (tn t) V) 156 91 ((nb : Int) + 1)) 169 p tm) 243 t (lim : Int)) 244 t (-1)) 246 t 0 = st2 (st2 (opWA t p nb lim (tn t) V) 156 91 ((nb : Int) + 1)) 169 p tm := by
      unfold opWA
      rw [st2_comm (a := 169) (b := 243) (by decide), st2_comm (a := 169) (b := 244) (by decide), st2_comm (a := 169) (b := 246) (by decide), st2_comm (a := 156) (b := 243) (by decide), st2_comm (a := 156) (b := 244) (by decide), st2_comm (a := 156) (b := 246) (by decide)]
    rw [eq, b1, Option.bind_some, c2]
    rfl
  · have mo : ∀ t', t' < 44 → t' ≠ t → mu own Y4 t' = mu own Y t' := fun t' ht' hne => by
      rw [mu_ft (wo t' ht' hne).1 c6 hne]
      exact mu_o (fun a _ _ => yne _ _ (by omega) (by omega) (by omega)) (by rw [hYo]; rfl)
    refine CTR_start (Y := Y) t44 (CTR_b (d := (1, 7)) hCT) h0 (by rw [if_pos ht]) mo (fun t' hne => (FT_6 c6 hne).trans (yne _ _ (by omega) (by omega) (by omega))) (fun z hz => by rw [c8.1 z hz, fup_ne hz, fup_ne hz]) (fun z hz => by rw [c9.1 z hz, a4.1 z hz]) ?_ ?_ c7
    · have := c8.2; rw [fup_eq, fup_eq] at this; omega
    · have := c9.2; have := a4.2.2; omega
  · exact (Kp1_kp k1).trans ((Kp1_fr p2 rfl rfl).trans ((Kp1_kp b3).trans (Kp1_kp c5)))
end JBEGIN2
