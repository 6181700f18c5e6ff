/-! callers' works begin, both sides -/
def FH : Nat → Bool := fun z => FG z || z == 8
section JBEGIN
variable {S : Nat → Bool} {M M1 : MM} {V V1 W sc : VV} {m al N p t t' nb oth Z L k K kx n P lim : Nat} {pa tk : Nat → Nat} {own : Nat → Ky} {sd ps sn pu rf : Nat → Int} {tm x kind r : Int} {lf lf0 lf' : Nat → Nat} {b b0 b0' B : Nat × Nat} {h h' : Gh} {eg : EG} {pb as : Nat → Option Nat} {mn sto : Nat → Int} {fa : Nat → Nat} {Y Yo Y1 Y' : Ys} {Lb : Nat → List Trm} {LA : Nat → List Nat} {dn : Nat → Int} {ev tn tn0 tn' nS : Nat → Nat} {KL : List Ky} {key : Ky}
theorem FH_11 (z : Nat) (h : F11 z = true) : FH z = true := by unfold FH FG; rw [FE_11 z h]; rfl
/-- the class: a record, then the work starts -/
theorem c_begin (hX : XC M nb tk) (hM : recC ((0 : Nat) : Int) kind (p : Int) M = some M1) (hX1 : XC M1 (nb + 1) (fup tk nb (nN M))) (hb : BoC M1 m al N pa) (hp : p < N) (hk : (kd M1 (wa pa t)).1 = 11) (hn : nb < 256) : f_X1_begin ((0 : Nat) : Int) ((wa pa t : Nat) : Int) (p : Int) kind (kx : Int) M = (f_X11_start ((wa pa t : Nat) : Int) ((pa p : Nat) : Int) (kx : Int) ((nN M : Nat) : Int) M1).bind fun M4 => some ((nb : Int), M4) := by
  have hN := hb.2.2.2.1
  have e : f_X1_begin ((0 : Nat) : Int) ((wa pa t : Nat) : Int) (p : Int) kind (kx : Int) M = (recC ((0 : Nat) : Int) kind (p : Int) M).bind fun M3 => (gfr 1 0 ((0 : Nat) : Int) M3).bind fun v4 => (gfr 6 5 v4 M3).bind fun v5 => (lar 7 v5 (p : Int) M3).bind fun v6 => (gfr 1 7 ((0 : Nat) : Int) M3).bind fun v7 => (lar 4 v7 (nb : Int) M3).bind fun v8 => ck 11 ((wa pa t : Nat) : Int) M3 <| (f_X11_start ((wa pa t : Nat) : Int) v6 (kx : Int) v8 M3).bind fun M4 => some ((nb : Int), M4) := by
    unfold f_X1_begin recC
    rw [gfi_e hX.1.1, Option.bind_some, hX.2.2.2.2.1, gfr_e hX.1.1, Option.bind_some, hX.2.1.2.2.2.2.1, Option.bind_some, Option.bind_some, nob_e, Option.bind_some, Option.bind_some]
    show nn ((nN M : Nat) : Int) _ = Option.bind (nn ((nN M : Nat) : Int) _) _
    rw [nn_e, nn_e]
    cases f_X26_init ((nN M : Nat) : Int) kind (p : Int) (nwo M 26 7 37) with
    | none => rfl
    | some A =>
      show ((sar 4 ((5 : Nat) : Int) (nb : Int) ((nN M : Nat) : Int) A).bind _) = Option.bind ((sar 4 ((5 : Nat) : Int) (nb : Int) ((nN M : Nat) : Int) A).bind _) _
      cases sar 4 ((5 : Nat) : Int) (nb : Int) ((nN M : Nat) : Int) A with
      | none => rfl
      | some C =>
        show (gfi 1 8 ((0 : Nat) : Int) C).bind _ = Option.bind ((gfi 1 8 ((0 : Nat) : Int) C).bind _) _
        cases gfi 1 8 ((0 : Nat) : Int) C <;> rfl
  rw [e, hM, Option.bind_some, gfr_e hX1.1.1, Option.bind_some, hX1.1.2.1, gfr_e (by rw [hb.1.1]), Option.bind_some, hb.1.2.2.1.2.2.2.1, lar_e (k := 247) (l := 32) (j := p) hb.1.2.2.2.1 (by decide) (by decide) (w32_nn (by omega)) (by omega), Option.bind_some, hb.2.2.2.2.1 p hp, gfr_e hX1.1.1, Option.bind_some, hX1.2.1.2.2.2.2.1, lar_e (k := 452) (l := 256) (j := nb) hX1.2.2.1.2.2.2.2 (by decide) (by decide) (w32_nn (by omega)) hn, Option.bind_some, hX1.2.2.2.2.2 nb (by omega), fup_eq, ck_e hk]
theorem CTR_b {d : Nat × Nat} (h : CTR N own nb K nS B lf b0 Z ev oth tn Y) : CTR N own nb K nS (B.1 + d.1, B.2 + d.2) lf (b0.1 + d.1, b0.2 + d.2) Z ev oth tn Y := by
  obtain ⟨h1, h2, h3, c', c1, c2, c3⟩ := h
  exact ⟨h1, h2, h3, c', c1, by show b0.1 + d.1 ≤ B.1 + d.1 + c'; omega, by show b0.2 + d.2 ≤ B.2 + d.2 + 180 * c'; omega⟩
/-- what is so of the state with the record and the work -/
theorem opX_ok (hJ : JX M V m al N pa own sd ps sn pu rf tm tk pb as nb Lb LA dn KL k h lf b0 eg mn sto fa Z ev oth tn Y) (hN : 12 + N ≤ 44) (ht : t < 12) (h0 : yv Y 226 t = 0) (hk : 0 ≤ kind ∧ kind ≤ 5) (hp : p < N) (hn : nb < 256) : hdW N (opX t kind p nb Y) t ∧ recY (nb + 1) (opX t kind p nb Y) ∧ (∀ t', t' < 44 → t' ≠ t → wE N own Lb (opX t kind p nb Y) t') ∧ yw (opX t kind p nb Y) = dtW t (yw Y) ∧ (∀ t, t < 12 + N → yv Y 226 t ≠ 0 → yv Y 229 t < (nb : Int)) := by
  obtain ⟨⟨o1, o2, o3, o4⟩, o5, o6, o7, o8, o9, o10⟩ := opX_eq (t := t) (Y := Y) hk (show p < 32 by omega) hn
  have hrec := hJ.1.1.2.2.2.1
  have xn : ∀ a i, a ≤ 264 → ¬ ((a = 226 ∨ a = 227 ∨ a = 228 ∨ a = 229) ∧ i = t) → a ≠ 156 → yv (opX t kind p nb Y) a i = yv Y a i := fun a i h1 h2 h3 => opX_ne h2 (by omega) (by omega)
  refine ⟨⟨o1, ⟨by omega, Or.inr ⟨by omega, by omega⟩⟩, fun _ => by omega, by omega⟩, ⟨by omega, fun t' ht' z => ?_⟩, fun t' ht' hne => ?_, rfl, fun t' ht' z => ?_⟩
  · by_cases c : t' = t
    · rw [c, o4, o2]
      refine ⟨by omega, by rw [Int.toNat_natCast]; exact o5, fun t'' h'' hne z'' => ?_⟩
      rw [xn 226 t'' (by omega) (by omega) (by omega)] at z''
      rw [xn 229 t'' (by omega) (by omega) (by omega)]
      have := (hrec.2 t'' h'' z'').1
      omega
    · rw [xn 226 t' (by omega) (by omega) (by omega)] at z
      obtain ⟨r1, r2, r3⟩ := hrec.2 t' ht' z
      rw [xn 229 t' (by omega) (by omega) (by omega), xn 227 t' (by omega) (by omega) (by omega)]
      refine ⟨by omega, ?_, fun t'' h'' hne z'' => ?_⟩
      · rw [opX_ne (by omega) (by omega) (by omega)]; exact r2
      · by_cases c2 : t'' = t
        · rw [c2, o4]; omega
        · rw [xn 226 t'' (by omega) (by omega) (by omega)] at z''
          rw [xn 229 t'' (by omega) (by omega) (by omega)]
          exact r3 t'' h'' hne z''
  · have w := wE_o (Y := Y) (t := t) (sc := ys (opX t kind p nb Y)) (hJ.2.2.1 t' ht') hne (fun a h1 h2 _ _ => xn a t' (by omega) (by omega) (by omega)) (fun a i ha => xn a i (by omega) (by omega) (by omega)) (fun z h12 => by
      have r1 := (hrec.2 t' h12 (by rw [z]; decide)).1
      exact opX_ne (a := 269) (i := (yv Y 229 t').toNat) (by omega) (by omega) (by omega))
    exact w
  · by_cases c : t' < 12
    · exact (hrec.2 t' c z).1.2
    · have w := (hJ.2.2.1 t' (by omega)).1
      have w1 : yv Y 226 t' = 1 := by rcases w.1 with q | q; exact absurd q z; exact q
      have := ((w.2.2 w1).2.2.1 (by omega)).1
      omega
/-- a lookup begins, both sides -/
theorem j_begin1 (hJ : JX M V m al N pa own sd ps sn pu rf tm tk pb as nb Lb LA dn KL k h lf b0 eg mn sto fa Z ev oth tn Y) (hCT : CTR N own nb K nS B lf b0 Z ev oth tn Y) (hX : XC M nb tk) (hN : 12 + N ≤ 44) (hal : al ≤ 8) (hK : K ≤ 130000000) (hnS : nS t ≤ 70000) (hp : p < N) (ht : t < 12) (h0 : yv Y 226 t = 0) (hn : nb < 256) (h91 : yv Y 156 91 = (nb : Int)) (hkey : ky (kC M (wa pa t + 1)) = key) (hv : gk V 161 0 = key) :
    ∃ M' V' Y', f_X1_begin ((0 : Nat) : Int) ((wa pa t : Nat) : Int) (p : Int) 1 ((wa pa t + 4 : Nat) : Int) M = some ((nb : Int), M') ∧ ((f_X16_open (t : Int) 1 (p : Int) V).bind fun V3 => (f_X16_put 195 0 161 0 V3).bind fun V4 => (f_X16_beginLookup (t : Int) 195 0 0 V4).bind fun V5 => f_X16_proceed (t : Int) V5) = some V' ∧ JD M' V' m al N pa own sd ps sn pu rf tm (fup tk nb (nN M)) pb as (nb + 1) Lb LA dn KL k K (fup nS t (nS t + 1)) (B.1 + 1, B.2 + 7) Y' ∧ XC M' (nb + 1) (fup tk nb (nN M)) ∧ FK FH M M' ∧ Kp1 V V' ∧ FT t (opX t 1 p nb Y) Y' ∧ EQ p (yw Y) (yw Y') := by
  have hB : bdg N ev oth := CTR_bdg hCT (by omega) (by omega)
  have t44 : t < 44 := by omega
  have ct := hCT.1 t t44
  obtain ⟨j1, j2, j3, j4, j5, j6, j7⟩ := id hJ
  have h3 := wE_h3 hN j3
  obtain ⟨hd, rc, wo, ewo, h29⟩ := opX_ok (kind := 1) (t := t) (p := p) hJ hN ht h0 (by decide) hp hn
  obtain ⟨⟨o1, o2, o3, o4⟩, o5, o6, o7, o8, o9, o10⟩ := opX_eq (t := t) (kind := 1) (p := p) (r := nb) (Y := Y) (by decide) (by omega) hn
  obtain ⟨M1, m1, c1, x1, f1⟩ := c_rec (kind := 1) (p := p) j1 hX h3 h29 hn (by decide) (by omega)
  have hu1 := c1.1.1.2.1.1
  have hu := j1.1.1.2.1.1
  obtain ⟨a, ha⟩ : ∃ a, a = wa pa t := ⟨_, rfl⟩
  have W := (c1.1.1.2.1.2.2.1 t (by omega))
  have w1 := W.1
  have w5 := W.2.2.2.2
  rw [← ha] at w1 w5
  obtain ⟨M5, hM5⟩ : ∃ M5, M5 = opM M1 a (pa p) ((a + 4 : Nat) : Int) ((nN M : Nat) : Int) (lf t) := ⟨_, rfl⟩
  have A0 : (fun z => z = a) a := rfl
  have x5 : ExC (fun z => z = a) M1 M5 := by
    rw [hM5]
    unfold opM
    exact ((((ExC_sR (A := fun z => z = a) A0).trans (ExC_sR A0)).trans (ExC_sR A0)).trans (ExC_sI A0)).trans (ExC_sI A0)
  obtain ⟨⟨f2, f3, f4, f6, f5⟩, fr, fo, fk⟩ := opM_f (M := M1) (a := a) (q := pa p) (x2 := ((a + 4 : Nat) : Int)) (x3 := ((nN M : Nat) : Int)) (l := lf t) (by omega)
  rw [← hM5] at f2 f3 f4 f6 f5 fr fo fk
  obtain ⟨k1, k2, k3, k4⟩ := c1.1.1.2.2.1 t (by omega)
  rw [← ha] at k1 k2
  have isk5 : isK M5 (a + 1) := x5.isK (by omega) w1.2.2.2.1
  have key5 : ky (kC M5 (a + 1)) = key := by
    have l2 : a + 1 + 1 < nN M := by
      have := (j1.1.1.2.1.2.2.1 t (by omega)).1
      rw [← ha] at this
      exact hu.lt (by rw [this.2.2.2.1.2.2]; decide)
    have mo2 : mo M (a + 1 + 1) = 12 := by
      have := A12_mo (pa := pa) (t := t) (j1.1.1.2.1.2.2.1 t (by omega)).1 (z := wa pa t + 2) (Or.inr (Or.inl rfl))
      rw [ha]; exact this
    have e : ∀ i, kC M5 (a + 1) i = kC M (wa pa t + 1) i := fun i => by
      show rI M5 (a + 1 + 1) i = rI M (wa pa t + 1 + 1) i
      rw [x5.rI (by omega), f1.rI l2 (by rw [mo2]; rfl), ha]
    rw [← hkey]
    exact ky_eq.mpr ⟨e 0, e 1, e 2, e 3, e 4⟩
  have rq1 : okW N own tm (yw (recZ nb 1 p Y)) := j2.2.1
  obtain ⟨M2, eg2, l1, l2, l3⟩ := c_startL (Yo := opX t 1 p nb Y) (M5 := M5) (kx := a + 1) (sk := false) c1 (fun t' ht' z1 z2 => by
    have e : ∀ b, b ≤ 250 → b ≠ 156 → yv (recZ nb 1 p Y) b t' = yv Y b t' := fun b q1 q2 => recS_ne (by omega) (by omega)
    rw [e _ (by decide) (by decide)] at z1 z2 ⊢
    exact h3 t' ht' z1 z2) rq1 (by omega) (by rw [← ha]; exact (x5.mono (fun z hz => Or.inl hz)).exa) ⟨x5.nN, x5.nU⟩ (fun i hi => by rw [← ha]; exact fr i (by omega) (by omega) (by omega)) (by rw [← ha]; exact f5) (by
    unfold Wk12
    rw [← ha, fr 10 (by decide) (by decide) (by decide), fr 11 (by decide) (by decide) (by decide), show vI (ys (opX t 1 p nb Y)) 226 t = 1 from o1, f6, f2, f3, f4, show vI (ys (opX t 1 p nb Y)) 228 t = (p : Int) from o3, show vI (ys (opX t 1 p nb Y)) 229 t = (nb : Int) from o4, show vI (ys (opX t 1 p nb Y)) 227 t = 1 from o2]
    exact ⟨k1, k2, rfl, fun _ => ⟨by rw [Int.toNat_natCast], by rw [if_neg (by omega), Int.toNat_natCast, fup_eq], fun z => absurd z (by decide), fun _ => rfl, fun z => absurd z (by decide), fun z => absurd z (by decide)⟩⟩) rfl (fun b i z => opG_ne (by omega)) (by rw [o2]; decide) rc hd isk5 (by rw [x5.kd, w1.2.2.1]; decide)
  rw [key5] at l2
  -- the reference
  obtain ⟨v1, kp1'⟩ := vy_opA (t := t) (kind := 1) (p := p) (nb := nb) j2 ht (by decide) (by decide) (by omega) hn (by omega)
  have opn := v_openA (kind := 1) (p := p) j2 ht h91 hn (by omega)
  obtain ⟨V3, hV3⟩ : ∃ V3, V3 = st2 (opAV t 1 p nb (tn t) V) 156 91 ((nb : Int) + 1) := ⟨_, rfl⟩
  rw [← hV3] at v1 kp1' opn
  have g161 : gk V3 161 0 = key := by
    rw [← hv]
    refine gk_ext (fun i _ => ?_)
    rw [hV3, vI_ne (by omega)]
    unfold opAV opB
    rw [vI_ne (by omega), vI_ne (by omega), vI_ne (by omega), vI_ne (by omega), vI_ne (by omega), vI_ne (by omega), vI_ne (by omega), vI_ne (by omega), vI_ne (by omega), vI_ne (by omega), vI_ne (by omega)]
  have put : f_X16_put 195 0 161 0 V3 = some (kput V3 195 0 161 0) := e_put (e := 195) (n := 5) (p := 0) (e' := 161) (n' := 5) (p' := 0) ⟨by decide, by decide, by decide, by decide, by decide⟩ (by decide) (by decide) ⟨by decide, by decide, by decide, by decide, by decide⟩ (by decide) (by decide) (Or.inl (by decide))
  have f9 : FrV (fun z => z == 9) V3 (kput V3 195 0 161 0) := fun a i z => by
    unfold kput
    rw [if_neg (fun e => by rw [e.1, show mv 195 i = 9 from rfl] at z; cases z)]
  have v4 := vy_9 v1 f9
  have g195 : gk (kput V3 195 0 161 0) 195 0 = key := by rw [gk_kput3]; exact g161
  obtain ⟨V5, b1, b2, b3⟩ := vy_look (e := 195) (n := 5) (q := 0) (vals := false) v4 t44 (by rw [fup_eq]; omega) hd.2.1 ⟨by decide, by decide, by decide, by decide, by decide⟩ (by decide) (by decide) (by decide)
  have b1 : f_X16_beginLookup (t : Int) 195 0 0 (kput V3 195 0 161 0) = some V5 := b1
  rw [g195] at b2
  -- both go on
  have flk : FT t (opX t 1 p nb Y) (lkY m own t key false (opX t 1 p nb Y)) := FT_lk
  have s230 : yv (lkY m own t key false (opX t 1 p nb Y)) 230 t = 1 := lk_1
  have l227 : yv (lkY m own t key false (opX t 1 p nb Y)) 227 t = 1 := by rw [lk_v (by decide)]; exact o2
  have wk : wOK N own Lb (lkY m own t key false (opX t 1 p nb Y)) t := wOK_lk hd.1 hd.2.1 hd.2.2.1 hd.2.2.2 (Or.inr (Or.inl ⟨l227, s230, ht⟩))
  have kk : KL.length ≤ 96 ∧ ∀ q, q < N → own q ∈ KL ∧ okTK KL (wT (yw (opX t 1 p nb Y)) q) := ⟨j6, fun q hq => j7 q hq⟩
  have pi1 : PI KL tm (wT (yw (opX t 1 p nb Y))) k (yw (lkY m own t key false (opX t 1 p nb Y))) := PI_dt (PI_dt j5)
  obtain ⟨M6, V6, Y6, h6, lf6, b6, eg6, mn6, sto6, fa6, tn6, e1, e2, e3, e4, e5, e6, e7, e8, e9, eP⟩ := j_begun (Yo := opX t 1 p nb Y) (k := k) (KL := KL) (x := 1) hN hal (by omega) hB rc hd wo (fun t' ht' hq => by rw [opX_ne (by omega) (by omega) (by omega)]; exact j4 t' ht' hq) kk flk ⟨wk, fun z => ⟨cz_lk, ⟨fun z3 => by rw [s230] at z3; omega, fun z4 => by rw [s230] at z4; omega⟩⟩⟩ (fun _ => s230) l2 (fun t' ht' z1 z2 => by
    by_cases c : t' = t
    · rw [c, l227] at z2; omega
    · have e : ∀ a, 226 ≤ a → a ≤ 249 → yv (lkY m own t key false (opX t 1 p nb Y)) a t' = yv Y a t' := fun a y1 y2 => (flk.2.2.1 a t' (by unfold wrT; omega)).trans (opX_ne (by omega) (by omega) (by omega))
      rw [e 226 (by omega) (by omega)] at z1
      rw [e 227 (by omega) (by omega)] at z2
      rw [e 247 (by omega) (by omega)]
      exact h3 t' ht' z1 z2) b2 pi1 (by rw [lk_v (by decide), o1]; rfl) (by rw [fup_eq, fup_eq]; omega) (by rw [fup_eq]; omega)
  have fM : FK FH M M6 := ((f1.mono (fun z hz => by rw [beq_iff_eq.mp hz]; rfl)).trans (l3.mono FH_11)).trans (e4.mono FH_11)
  have hX6 : XC M6 (nb + 1) (fup tk nb (nN M)) := XC_fk (l3.trans e4) hu1 rfl x1
  refine ⟨M6, V6, Y6, ?_, ?_, ⟨h6, lf6, b6, eg6, mn6, sto6, fa6, Z, ev, oth, tn6, e3, ?_⟩, hX6, fM, ?_, e6, eP (EQ p (yw Y)) (by rw [show yp (opX t 1 p nb Y) t = p by unfold yp; show (yv (opX t 1 p nb Y) 228 t).toNat = p; omega]; exact EQ_cl) ((EQ_cl (t := t) (N := N) (own := own) (sd := sd) (tm := tm)).1 _ ((EQ_cl (t := t) (N := N) (own := own) (sd := sd) (tm := tm)).1 _ .refl))⟩
  · have cb := c_begin (kx := wa pa t + 4) (t := t) hX m1 x1 c1.1.1.1.1 hp (by rw [← ha]; exact w1.1) hn
    rw [cb]
    have s0 := c_start0 (M := M1) (pa := pa) (t := t) (p := p) (lf := lf) (kx := a + 4) (x3 := ((nN M : Nat) : Int)) (by rw [← ha]; exact w1.1) (by rw [← ha]; exact w5)
    have k14 : (kd M5 (a + 4)).1 = 14 := by rw [x5.kd, w1.2.2.2.2.2]
    rw [← ha, ← hM5, ckE_f (by rw [k14]; decide), ckE_t k14] at s0
    rw [← ha, s0]
    have beg : f_X14_begin ((a + 4 : Nat) : Int) ((a : Nat) : Int) M5 = some (1, M2) := by
      unfold f_X14_begin
      have k11 : (kd M5 a).1 = 11 := by rw [x5.kd]; exact w1.1
      rw [← ha] at l1
      rw [gfr_e k11, Option.bind_some, fr 7 (by decide) (by decide) (by decide), w1.2.1.2.2.1, ck_e k11, show f_X11_look ((a : Nat) : Int) ((a + 1 : Nat) : Int) 0 M5 = some (1, M2) from l1, Option.bind_some, bz_e (Or.inr rfl)]
    rw [beg, Option.bind_some]
    rw [← ha] at e1
    show (j_X11_start_38 ((a : Nat) : Int) 1 M2).bind _ = _
    rw [e1]; rfl
  · rw [opn, Option.bind_some, put, Option.bind_some, b1, Option.bind_some]
    exact e2
  · have mo : ∀ t', t' < 44 → t' ≠ t → mu own Y6 t' = mu own Y t' := fun t' ht' hne => by
      rw [mu_ft (wo t' ht' hne).1 e6 hne]
      exact mu_o (fun a _ _ => opX_ne (by omega) (by omega) (by omega)) rfl
    refine CTR_start (Y := Y) t44 (CTR_b (d := (1, 7)) hCT) h0 (by rw [if_pos ht]) mo (fun t' hne => (FT_6 e6 hne).trans (opX_ne (by omega) (by omega) (by omega))) (fun z hz => by rw [e8.1 z hz, fup_ne hz, fup_ne hz]) (fun z hz => by rw [e9.1 z hz, fup_ne hz]) ?_ ?_ e7
    · have := e8.2; rw [fup_eq, fup_eq] at this; omega
    · have := e9.2; rw [fup_eq] at this; omega
  · exact (Kp1_kp kp1').trans ((Kp1_fr f9 rfl rfl).trans ((Kp1_kp b3).trans (Kp1_kp e5)))
end JBEGIN
