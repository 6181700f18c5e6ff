/-! set and side, both sides -/
section KSET
variable {S : Nat → Bool} {M M1 : MM} {V V1 W sc : VV} {m al N p t t' nb k K s oth Z L : Nat} {pa tk : Nat → Nat} {own : Nat → Ky} {sd ps sn pu rf tl : Nat → Int} {tm x1 x2 x v : Int} {lf : Nat → Nat} {b b0 B Bt : Nat × Nat} {h h' : Gh} {eg : EG} {pb as : Nat → Option Nat} {mn sto : Nat → Int} {fa : Nat → Nat} {Y : Ys} {Lb : Nat → List Trm} {LA : Nat → List Nat} {dn : Nat → Int} {ev tn nS nx : Nat → Nat} {KL : List Ky} {st : Nat → Int} {w : Wd}
theorem st_iff : stOK st ↔ ∀ i, i < 11 → leL.getD i 0 ≤ st i ∧ st i ≤ moL.getD i 0 := by
  constructor
  · rintro ⟨h0, h1, h2, h3, h4, h5, h6, h7, h8, h9, h10⟩ i hi
    have c : i = 0 ∨ i = 1 ∨ i = 2 ∨ i = 3 ∨ i = 4 ∨ i = 5 ∨ i = 6 ∨ i = 7 ∨ i = 8 ∨ i = 9 ∨ i = 10 := by omega
    rcases c with e | e | e | e | e | e | e | e | e | e | e
    · rw [e]; exact h0
    · rw [e]; exact h1
    · rw [e]; exact h2
    · rw [e]; exact h3
    · rw [e]; exact h4
    · rw [e]; exact h5
    · rw [e]; exact h6
    · rw [e]; exact h7
    · rw [e]; exact h8
    · rw [e]; exact h9
    · rw [e]; exact ⟨h10.1, by show st 10 ≤ 2147483647; omega⟩
  · intro h
    have h10 := h 10 (by decide)
    exact ⟨h 0 (by decide), h 1 (by decide), h 2 (by decide), h 3 (by decide), h 4 (by decide), h 5 (by decide), h 6 (by decide), h 7 (by decide), h 8 (by decide), h 9 (by decide), h10.1, by have : st 10 ≤ 2147483647 := h10.2; omega⟩
theorem st_set (hs : stOK st) (ho : okS x v = true) : stOK (fup st x.toNat v) := by
  rw [st_iff] at hs ⊢
  unfold okS at ho
  rw [Bool.and_eq_true, Bool.and_eq_true, Bool.and_eq_true, decide_eq_true_eq, decide_eq_true_eq, decide_eq_true_eq, decide_eq_true_eq] at ho
  intro i hi
  by_cases c : i = x.toNat
  · rw [c, fup_eq]; exact ⟨ho.1.2, ho.2⟩
  · rw [fup_ne c]; exact hs i hi
def setP (w : Wd) (st : Nat → Int) : Wd := (st, wlo w, wfl w, wtl w, wnx w, wQ w, wT w, wS w)
theorem k_set (hJ : TK M V m al N pa own sd ps sn tm tk as nb Lb LA dn KL K s Bt Y) (hX : X0 M) (hN : 12 + N ≤ 44) (hb : BndV V) (h1 : w32 x1 = x1) (h2 : w32 x2 = x2) :
    ∃ (M' : MM) (V' : VV) (Y' : Ys) (r : Int), f_X1_set ((0 : Nat) : Int) x1 x2 M = some (r, M') ∧ f_X16_set x1 x2 V = some (r, V') ∧ TK M' V' m al N pa own sd ps sn tm tk as nb Lb LA dn KL K s Bt Y' ∧ (DE ps (yw Y) → DE ps (yw Y')) ∧ FK (fun z => z == 1) M M' ∧ FrV m1 V V' ∧ YR Y Y' := by
  obtain ⟨pu, rf, pb, nS, B, k, ⟨h, lf, b0, eg, mn, sto, fa, Z, ev, oth, tn, hJ, hCT⟩, h3, h4, h5⟩ := hJ
  obtain ⟨j1, j2, j3, j4, j5, j6, j7⟩ := id hJ
  obtain ⟨c1, c2, c3, c4, c5, c6, c7, c8, c9⟩ := id j1.1.1.1
  have hu := c5.1
  obtain ⟨L, ⟨p1, p2, p3, p4, p5, p6, p7, p8⟩, hL⟩ := j2.1
  obtain ⟨M', a1, a2, a3⟩ := e_set c2 h1 h2
  obtain ⟨V', b1, b2, b3⟩ := v_set p1 hb h1 h2
  have m20 : mo M 20 = 1 := mo_ar c2.1.2.2.2.2.1 (by decide) (by decide)
  have f : FK (fun z => z == 1) M M' := FK_ex a3 (fun q _ hq => by rw [hq, m20]; rfl)
  obtain ⟨st', hst⟩ : ∃ st', st' = if okS x1 x2 = true then fup (wst (yw Y)) x1.toNat x2 else wst (yw Y) := ⟨_, rfl⟩
  rw [← hst] at a2 b2
  have ok' : stOK st' := by
    rw [hst]
    split
    · rename_i c; exact st_set j2.2.1.1 c
    · exact j2.2.1.1
  have hC : CPs M' m al N pa own sd ps sn pu rf tm lf (eb b0 eg (12 + N)) (setP (yw Y) st') h := ⟨BoC_fk f hu (by decide) c1, a2, tbs_fk f (by decide) c3, sts_fk f (by decide) c4, PeC_fk f (by decide) c5, RqsC_fk f (by decide) c6, c7, by rw [a3.nN, a3.nU]; exact c8, c9⟩
  have hP : VP V' m al N own sd ps sn pu rf tm (setP (yw Y) st') L Z := ⟨b2, PV_frV b3 (by decide) p2, tabs_frV b3 (by decide) p3, sts_frV b3 (by decide) p4, rqs_frV b3 ⟨by decide, by decide⟩ p5, by rw [fv b3 (show m1 (mv 156 0) = false from rfl)]; exact p6, by rw [fv b3 (show m1 (mv 156 1) = false from rfl)]; exact p7, p8⟩
  have o : OKw N own tm KL k ev (yw Y) (setP (yw Y) st') := ⟨⟨ok', j2.2.1.2⟩, j2.2.2.1, ⟨ok', j5.2⟩, fun q hq => (j7 q hq).2, fun _ _ _ => rfl⟩
  refine ⟨M', V', setW Y (setP (yw Y) st'), b2i (okS x1 x2), ?_, b1, ⟨pu, rf, pb, nS, B, k, ⟨h, lf, b0, eg, mn, sto, fa, Z, ev, oth, tn, JX_w hJ hN hC f (by decide) (FrV.mono b3 (fun z hz => by unfold m1 at hz; rw [beq_iff_eq.mp hz]; rfl)) hP hL o, CTR_w hCT (Nat.le_refl _) (Nat.le_refl _) (Nat.le_refl _)⟩, h3, h4, h5⟩, fun z => z, f, b3, .refl⟩
  unfold f_X1_set
  rw [gfr_e hX.1, Option.bind_some, hX.2.2, ck_e (by rw [c2.1.1]), a1, Option.bind_some, bz_e (show b2i (okS x1 x2) = 0 ∨ b2i (okS x1 x2) = 1 by cases okS x1 x2 <;> decide)]
theorem cp_side (hC : CPs M m al N pa own sd ps sn pu rf tm lf b w h) (hp : p < N) (hv : 0 ≤ v ∧ v ≤ 1) : CPs (sI M (pa p) 4 v) m al N pa own (fup sd p v) ps sn pu rf tm lf b w h ∧ FK (fun z => z == 5) M (sI M (pa p) 4 v) := by
  obtain ⟨c1, c2, c3, c4, c5, c6, c7, c8, c9⟩ := hC
  have hu := c5.1
  have f : FK (fun z => z == 5) M (sI M (pa p) 4 v) := pe_fk c5 hp rfl
  have wd := pe_word (k := 4) (v := v) c5 hp (by decide)
  refine ⟨⟨BoC_fk f hu (by decide) c1, NetRep_fk f hu (by decide) c2, tbs_fk f (by decide) c3, sts_fk f (by decide) c4, ⟨f.un hu, c5.2.1, fun q hq => ?_⟩, rqs_word c6 hp (by decide), c7, c8, c9⟩, f⟩
  obtain ⟨h1, h2, h3, h4, h5, h6, ⟨t1, t2, t3, t4, t5⟩, h7, h8⟩ := c5.2.2 q hq
  obtain ⟨w1, w2, w3, w4⟩ := wd q hq
  refine ⟨w1, w2, w3, by rw [w4 _ (by omega)]; exact h4, ?_, by rw [w4 _ (by omega)]; exact h6, ⟨by rw [w4 _ (by omega)]; exact t1, by rw [w4 _ (by omega)]; exact t2, by rw [w4 _ (by omega)]; exact t3, by rw [w4 _ (by omega)]; exact t4, by rw [w4 _ (by omega)]; exact t5⟩, by rw [w4 _ (by omega)]; exact h7, by rw [w4 _ (by omega)]; exact h8⟩
  by_cases c : q = p
  · rw [c, rI_eq rfl, fup_eq, w32_id (by omega) (by omega)]
  · rw [w4 _ (fun z => c z.1), fup_ne c]; exact h5
theorem vp_side (h : VP V m al N own sd ps sn pu rf tm w L Z) (hp : p < 32) (hv : 0 ≤ v ∧ v ≤ 1) : VP (st2 V 166 p v) m al N own (fup sd p v) ps sn pu rf tm w L Z ∧ FrV (fun z => z == 5) V (st2 V 166 p v) := by
  obtain ⟨h1, h2, h3, h4, h5, h6, h7, h8⟩ := h
  have f : FrV (fun z => z == 5) V (st2 V 166 p v) := FrV_st rfl
  refine ⟨⟨VNet_fr f (by decide) h1, ?_, tabs_frV f (by decide) h3, sts_frV f (by decide) h4, rqs_ag h5 (fun a i z => vI_ne (by omega)), by rw [vI_ne (by omega)]; exact h6, by rw [vI_ne (by omega)]; exact h7, h8⟩, f⟩
  obtain ⟨a1, a2, a3, a4⟩ := h2
  refine ⟨by rw [vI_ne (by omega)]; exact a1, a2, fun q hq => ?_, fun i hi => by rw [vI_ne (by omega)]; exact a4 i hi⟩
  obtain ⟨b1, b2, b3, b4, b5, b6⟩ := a3 q hq
  refine ⟨by rw [gk_st2 (by decide)]; exact b1, ?_, by rw [vI_ne (by omega)]; exact b3, by rw [vI_ne (by omega)]; exact b4, by rw [vI_ne (by omega)]; exact b5, by rw [vI_ne (by omega)]; exact b6⟩
  by_cases c : q = p
  · rw [c, vI_eq rfl, fup_eq, w32_id (by omega) (by omega)]
  · rw [vI_ne (fun z => c z.2), fup_ne c]; exact b2
theorem k_side (hJ : TK M V m al N pa own sd ps sn tm tk as nb Lb LA dn KL K s Bt Y) (hX : X0 M) (hN : 12 + N ≤ 44) (h1 : w32 x1 = x1) (h2 : w32 x2 = x2) :
    ∃ (M' : MM) (V' : VV) (r : Int) (sd' : Nat → Int), f_X1_side ((0 : Nat) : Int) x1 x2 M = some (r, M') ∧ f_X16_side x1 x2 V = some (r, V') ∧ TK M' V' m al N pa own sd' ps sn tm tk as nb Lb LA dn KL K s Bt Y ∧ FK (fun z => z == 5) M M' ∧ FrV (fun z => z == 5) V V' := by
  obtain ⟨hb, hpe, ⟨tl, pu0, rf0, hv⟩, _⟩ := TK_peer hJ
  have hs := c_has hX hb h1
  have ip := v_isPeer hv.1 h1
  have w1 : w32 1 = 1 := by decide
  unfold f_X1_side f_X16_side
  rw [ck_e hX.1, hs, Option.bind_some, w32_b2i, ip, Option.bind_some, w32_b2i, h2, w1]
  by_cases c : 0 ≤ x1 ∧ x1 < (N : Int)
  · obtain ⟨p, hp⟩ : ∃ p : Nat, x1 = (p : Int) := ⟨x1.toNat, by omega⟩
    have pN : p < N := by omega
    have e1 : (decide (0 ≤ x1) && decide (x1 < (N : Int))) = true := by rw [decide_eq_true c.1, decide_eq_true c.2]; rfl
    rw [e1, if_neg (show ¬ b2i true = 0 by decide), if_neg (show ¬ b2i true = 0 by decide)]
    by_cases c2 : x2 < 0
    · rw [if_pos c2, if_pos c2]
      exact ⟨M, V, 0, sd, rfl, rfl, hJ, .refl, .refl⟩
    rw [if_neg c2, if_neg c2]
    by_cases c3 : 1 < x2
    · rw [if_pos c3, if_pos c3]
      exact ⟨M, V, 0, sd, rfl, rfl, hJ, .refl, .refl⟩
    rw [if_neg c3, if_neg c3]
    obtain ⟨pu, rf, pb, nS, B, k, ⟨h, lf, b0, eg, mn, sto, fa, Z, ev, oth, tn, hJ, hCT⟩, h3, h4, h5⟩ := hJ
    obtain ⟨j1, j2, j3, j4, j5, j6, j7⟩ := id hJ
    obtain ⟨L, hP, hL⟩ := j2.1
    obtain ⟨a1, a2⟩ := cp_side (p := p) (v := x2) j1.1.1.1 pN (by omega)
    obtain ⟨b1, b2⟩ := vp_side (p := p) (v := x2) hP (by omega) (by omega)
    have o : OKw N own tm KL k ev (yw Y) (yw Y) := ⟨j2.2.1, j2.2.2.1, j5, fun q hq => (j7 q hq).2, fun _ _ _ => rfl⟩
    refine ⟨_, _, 1, _, ?_, ?_, ⟨pu, rf, pb, nS, B, k, ⟨h, lf, b0, eg, mn, sto, fa, Z, ev, oth, tn, JX_p hJ hN a1 a2 (by decide) (FrV.mono b2 G5_5) b1 hL o, hCT⟩, h3, h4, h5⟩, a2, b2⟩
    · rw [hp, gfr_e hX.1, Option.bind_some, hX.2.1, gfr_e (by rw [hb.1.1]), Option.bind_some, hb.1.2.2.1.2.2.2.1, lar_e (k := 247) (l := 32) (j := p) hb.1.2.2.2.1 (by decide) (by decide) (w32_nn (by omega)) (by omega), Option.bind_some, hb.2.2.2.2.1 p pN, pfi_e (by rw [(hpe p pN).1])]
      rfl
    · rw [hp, s2_n (by omega) (by decide)]; rfl
  · have e1 : (decide (0 ≤ x1) && decide (x1 < (N : Int))) = false := by
      cases e : (decide (0 ≤ x1) && decide (x1 < (N : Int))) with
      | false => rfl
      | true => rw [Bool.and_eq_true, decide_eq_true_eq, decide_eq_true_eq] at e; exact absurd e c
    rw [e1, if_pos (show b2i false = 0 by decide), if_pos (show b2i false = 0 by decide)]
    exact ⟨M, V, 0, sd, rfl, rfl, hJ, .refl, .refl⟩
end KSET
