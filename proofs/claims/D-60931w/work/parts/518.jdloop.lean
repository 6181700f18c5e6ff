/-! deliveries of a tick, both sides -/
def X0 (M : MM) : Prop := (kd M 0).1 = 1 ∧ rR M 0 0 = ((18 : Nat) : Int) ∧ rR M 0 1 = ((19 : Nat) : Int)
def lvB (N : Nat) (ps : Nat → Int) (x : Int) : Bool := decide (0 ≤ x) && decide (x < (N : Int)) && decide (ps x.toNat = 1)
/-- peers that don't live have nothing -/
def DE (ps : Nat → Int) (w : Wd) : Prop := ∀ q, ps q ≠ 1 → Em w q
section JDLOOP
variable {S : Nat → Bool} {M M1 : MM} {V V' V2 W : VV} {m al N p t nb oth Z L k n s K K' q i j : Nat} {pa tk : Nat → Nat} {own : Nat → Ky} {sd ps sn pu rf tl : Nat → Int} {tm : Int} {lf : Nat → Nat} {b b0 B : Nat × Nat} {h h' : Gh} {eg : EG} {pb as : Nat → Option Nat} {mn sto : Nat → Int} {fa : Nat → Nat} {Y Y0 Y1 Y' : Ys} {Lb : Nat → List Trm} {LA : Nat → List Nat} {dn : Nat → Int} {ev tn nS nx : Nat → Nat} {w w' : Wd} {KL : List Ky} {d : Dg} {x : Int}
theorem DE_eq {w' : Wd} (h : EQ p w w') (hp : ps p = 1) (hd : DE ps w) : DE ps w' := fun q hq => h q (fun e => by rw [e] at hq; exact hq hp) (hd q hq)
theorem X0_fk (f : FK S M M1) (hu : UN M) (hs : S 8 = false) (hX : X0 M) : X0 M1 := by
  obtain ⟨h1, h2, h3⟩ := hX
  have l : 0 < nN M := hu.lt (by rw [h1]; decide)
  have m8 : S (mo M 0) = false := by rw [mo_cl1 h1 (by decide) (by decide)]; exact hs
  exact ⟨by rw [f.kd l]; exact h1, by rw [f.rR l m8]; exact h2, by rw [f.rR l m8]; exact h3⟩
theorem c_isLive (hX : X0 M) (hb : BoC M m al N pa) (hP : PeC M N pa own sd ps sn pu rf tl nx) (hx : w32 x = x) : f_X1_isLive ((0 : Nat) : Int) x M = some (b2i (lvB N ps x)) := by
  have k6 : (kd M 18).1 = 6 := by rw [hb.1.1]
  have hN := hb.2.2.2.1
  have has : f_X1_has ((0 : Nat) : Int) x M = some (b2i (decide (0 ≤ x) && decide (x < (N : Int)))) := by
    unfold f_X1_has f_X6_has
    rw [gfr_e hX.1, Option.bind_some, hX.2.1, ck_e k6, hx]
    by_cases c : x < 0
    · rw [if_pos c, show decide (0 ≤ x) = false from decide_eq_false (by omega)]; rfl
    · rw [if_neg c, gfi_e k6, Option.bind_some, hb.2.2.1, w32_nn (by omega), show decide (0 ≤ x) = true from decide_eq_true (by omega)]
      by_cases c2 : x < (N : Int)
      · rw [if_pos c2, show decide (x < (N : Int)) = true from decide_eq_true c2]; rfl
      · rw [if_neg c2, show decide (x < (N : Int)) = false from decide_eq_false c2]; rfl
  unfold f_X1_isLive
  rw [ck_e hX.1, has, Option.bind_some, w32_b2i]
  unfold lvB
  by_cases c : 0 ≤ x ∧ x < (N : Int)
  · obtain ⟨p, hp⟩ : ∃ p : Nat, x = (p : Int) := ⟨x.toNat, by omega⟩
    have pN : p < N := by omega
    have pe := (hP.2.2 p pN)
    rw [show (decide (0 ≤ x) && decide (x < (N : Int))) = true by rw [decide_eq_true c.1, decide_eq_true c.2]; rfl, if_neg (by decide), gfr_e hX.1, Option.bind_some, hX.2.1, gfr_e k6, Option.bind_some, hb.1.2.2.1.2.2.2.1, lar_e (k := 247) (l := 32) (j := p) hb.1.2.2.2.1 (by decide) (by decide) (by rw [hx, hp]) (by omega), Option.bind_some, hb.2.2.2.2.1 p pN, gfi_e (by rw [pe.1.1]), Option.bind_some, w32_rI, pe.2.2.2.1, hp, show ((p : Nat) : Int).toNat = p from Int.toNat_natCast p, show w32 1 = 1 from by decide]
    by_cases c3 : ps p = 1
    · rw [if_pos c3, decide_eq_true c3]; rfl
    · rw [if_neg c3, decide_eq_false c3]; rfl
  · rw [show (decide (0 ≤ x) && decide (x < (N : Int))) = false by
      cases e : (decide (0 ≤ x) && decide (x < (N : Int))) with
      | false => rfl
      | true => rw [Bool.and_eq_true, decide_eq_true_eq, decide_eq_true_eq] at e; exact absurd e c, if_pos (by decide)]
    rfl
theorem v_lives (hP : PV V N own sd ps sn pu rf tl) (hx : w32 x = x) : f_X16_lives x V = some (b2i (lvB N ps x)) := by
  unfold f_X16_lives
  have hN := hP.2.1
  rw [v_isPeer hP.1 hx, Option.bind_some, w32_b2i]
  unfold lvB
  by_cases c : 0 ≤ x ∧ x < (N : Int)
  · obtain ⟨p, hp⟩ : ∃ p : Nat, x = (p : Int) := ⟨x.toNat, by omega⟩
    have pN : p < N := by omega
    rw [show (decide (0 ≤ x) && decide (x < (N : Int))) = true by rw [decide_eq_true c.1, decide_eq_true c.2]; rfl, if_neg (by decide), hp, l2_n (by omega) (by decide), Option.bind_some, w32_vI, (hP.2.2.1 p (by omega)).2.2.1, show ((p : Nat) : Int).toNat = p from Int.toNat_natCast p, show w32 1 = 1 from by decide]
    by_cases c3 : ps p = 1
    · rw [if_pos c3, decide_eq_true c3]; rfl
    · rw [if_neg c3, decide_eq_false c3]; rfl
  · rw [show (decide (0 ≤ x) && decide (x < (N : Int))) = false by
      cases e : (decide (0 ≤ x) && decide (x < (N : Int))) with
      | false => rfl
      | true => rw [Bool.and_eq_true, decide_eq_true_eq, decide_eq_true_eq] at e; exact absurd e c, if_pos (by decide)]
    rfl
/-- frame of a tick -/
def FG : Nat → Bool := fun z => FE z || z == 9
def kp2 (a i : Nat) : Prop := a = 157 ∨ a = 158 ∨ a = 163 ∨ a = 164 ∨ (173 ≤ a ∧ a ≤ 178) ∨ (a = 156 ∧ i = 4)
theorem FG_D (z : Nat) (h : FD z = true) : FG z = true := by unfold FG FE; rw [h]; rfl
theorem kp2_1 {a i : Nat} (h : kp2 a i) : kp1 a i := by unfold kp2 at h; unfold kp1; omega
/-- one turn of the loop -/
theorem j_dstep (hJ : JD M V m al N pa own sd ps sn pu rf tm tk pb as nb Lb LA dn KL k K nS B Y) (hX : X0 M) (hN : 12 + N ≤ 44) (hal : al ≤ 8) (hK : K < 130000000) (hnS : ∀ t, t < 44 → nS t ≤ 70000) {c : Nat} (h142 : vI V 156 142 + 1 < 2147483648 ∧ 0 ≤ vI V 156 142) :
    (∃ o : Int, f_X16_nextDue V = some o ∧ b_X1_tick_15 ((0 : Nat) : Int) (c : Int) M = xit (j_X1_tick_79 ((0 : Nat) : Int) (c : Int) M) ∧ b_X16_tick_15 o V = xit (j_X16_tick_75 V)) ∨
    ∃ (o : Int) (M' : MM) (V' : VV) (Y' : Ys) (d k' : Nat), k = k' + 1 ∧ d ≤ 1 ∧ f_X16_nextDue V = some o ∧ b_X1_tick_15 ((0 : Nat) : Int) (c : Int) M = cnt (((c + d : Nat) : Int), M') ∧ b_X16_tick_15 o V = (f_X16_nextDue V').bind (fun v => cnt (v, V')) ∧ JD M' V' m al N pa own sd ps sn pu rf tm tk pb as nb Lb LA dn KL k' (K + 1) nS B Y' ∧ FK FG M M' ∧ (∀ a i, kp2 a i → V' a i = V a i) ∧ vI V' 156 142 = vI V 156 142 + d ∧ YR Y Y' ∧ (DE ps (yw Y) → DE ps (yw Y')) := by
  obtain ⟨h, lf, b0, eg, mn, sto, fa, Z, ev, oth, tn, hJ, hCT⟩ := hJ
  have hC := hJ.1.1.1.1
  have hu := hC.2.2.2.2.1.1
  have k7 : (kd M 19).1 = 7 := by rw [hC.2.1.1.1]
  obtain ⟨L, hP, hL⟩ := hJ.2.1.1
  have due := e_isDue hC.2.1
  by_cases cd : 0 < (wfl (yw Y)).length ∧ ((wfl (yw Y)).getD 0 dg0).2.2.1 ≤ tm
  · right
    obtain ⟨x, fl, hf⟩ : ∃ x fl, wfl (yw Y) = x :: fl := by
      cases e : wfl (yw Y) with
      | nil => rw [e] at cd; exact absurd cd.1 (by decide)
      | cons x fl => exact ⟨x, fl, rfl⟩
    have hd : x.2.2.1 ≤ tm := by have := cd.2; rw [hf] at this; exact this
    obtain ⟨M1, d, k', o, V1, V2, rfl, o4, a1, ⟨a2, a3, a4, a5, a6⟩, ⟨b1, b2, b3, b4, b5, b6⟩, a7, a8, a9, a10⟩ := j_take1 hJ hN hf hd
    rw [show (decide (0 < (wfl (yw Y)).length) && decide (((wfl (yw Y)).getD 0 dg0).2.2.1 ≤ tm)) = true by rw [decide_eq_true cd.1, decide_eq_true cd.2]; rfl] at due
    have hX1 : X0 M1 := X0_fk a9 hu rfl hX
    have C1 := a7.1.1.1.1
    obtain ⟨L1, hP1, hL1⟩ := a7.2.1.1
    have w1 : w32 x.2.1 = x.2.1 := by rw [← a4]; exact w32_rI
    have lv := c_isLive hX1 C1.1 C1.2.2.2.2.1 w1
    have lvv := v_lives hP1.2.1 w1
    have clsE : b_X1_tick_15 ((0 : Nat) : Int) (c : Int) M = if w32 (b2i (lvB N ps x.2.1)) = 0 then cnt ((c : Int), M1) else (gfr 1 0 ((0 : Nat) : Int) M1).bind fun v6 => (gfr 6 5 v6 M1).bind fun v7 => (gfi 25 1 ((d : Nat) : Int) M1).bind fun v8 => (lar 7 v7 v8 M1).bind fun v9 => (gfi 25 0 ((d : Nat) : Int) M1).bind fun v10 => (gfr 1 1 ((0 : Nat) : Int) M1).bind fun v11 => (gfr 7 5 v11 M1).bind fun v12 => ck 17 v9 M1 <| (f_X17_deliver v9 v10 v12 M1).bind fun M1 => cnt ((c : Int) + 1, M1) := by
      unfold b_X1_tick_15
      rw [gfr_e hX.1, Option.bind_some, hX.2.2, ck_e k7, due, Option.bind_some, if_neg (by decide), Option.bind_some, ck_e k7, a1, Option.bind_some]
      show (gfi 25 1 ((d : Nat) : Int) M1).bind _ = _
      rw [gfi_e a2, Option.bind_some, a4, ck_e hX1.1, lv, Option.bind_some]
    have refE : b_X16_tick_15 (o : Int) V = if w32 (b2i (lvB N ps x.2.1)) = 0 then j_X16_tick_67 V2 else (p2 142 ((w32 (V2 156 142)) + 1) V2).bind fun V3 => (f_X16_deliver x.2.1 x.1 V3).bind fun V4 => j_X16_tick_67 V4 := by
      unfold b_X16_tick_15
      rw [w32_nn (by omega), if_neg (by omega), l2_n o4 (by decide), Option.bind_some, b2, l2_n o4 (by decide), Option.bind_some, b3, b4, Option.bind_some, b5, Option.bind_some, lvv, Option.bind_some]
    have f1 : FK FG M M1 := a9.mono (fun z hz => by unfold m19 at hz; unfold FG FE FD; simp only [Bool.or_eq_true, beq_iff_eq] at hz ⊢; omega)
    have v142 : vI V2 156 142 = vI V 156 142 := fv a10 rfl
    have kv : ∀ a i, kp2 a i → V2 a i = V a i := fun a i z => Kp1_fr a10 rfl rfl a i (kp2_1 z)
    have ct1 := CTR_w (w := setF (yw Y) fl) hCT (show K ≤ K + 1 by omega) (show sumN ev N + oth + 3 * K ≤ sumN ev N + oth + 3 * (K + 1) by omega) (show Z + 2 * K ≤ Z + 2 * (K + 1) by omega)
    cases lb : lvB N ps x.2.1 with
    | false =>
      rw [lb] at clsE refE
      refine ⟨(o : Int), M1, V2, _, 0, k', rfl, by omega, b1, clsE.trans (if_pos (by decide)), refE.trans (if_pos (by decide)), ⟨h, lf, b0, eg, mn, sto, fa, Z, ev, oth, tn, a7, ct1⟩, f1, kv, by rw [v142]; omega, .refl, fun z => z⟩
    | true =>
      rw [lb, if_neg (by decide)] at clsE refE
      unfold lvB at lb
      rw [Bool.and_eq_true, Bool.and_eq_true, decide_eq_true_eq, decide_eq_true_eq, decide_eq_true_eq] at lb
      obtain ⟨p, hp⟩ : ∃ p : Nat, x.2.1 = (p : Int) := ⟨x.2.1.toNat, by omega⟩
      have pN : p < N := by omega
      have fx : FrS XO V2 (st2 V2 156 142 (vI V2 156 142 + 1)) := FrS_st (by unfold XO; omega)
      have a7' := JX_x a7 fx
      have ct0 := CTR_w (w := setF (yw Y) fl) hCT (Nat.le_refl K) (Nat.le_refl _) (Nat.le_refl _)
      obtain ⟨M3, V3, Y3, c1, c2, c3, c4, c5, c6, c7⟩ := j_deliver (ad := x.1) ⟨h, lf, b0, eg, mn, sto, fa, Z, ev, oth, tn, a7', ct0⟩ hN hal hK hnS pN a5 (InV_ag b6 (fun a i z => fx.vI (by unfold XO; omega))) (pk_isBL a5) a8.2 a8.1 a6
      refine ⟨(o : Int), M3, V3, Y3, 1, k', rfl, by omega, b1, ?_, ?_, c3, f1.trans (c4.mono FG_D), fun a i z => ((c5 a i (kp2_1 z)).trans (st2_ne (by unfold kp2 at z; omega))).trans (kv a i z), ?_, YR.trans (YR.refl (Y := Y)) c6, fun z => DE_eq c7 (by have := lb.2; rw [hp, Int.toNat_natCast] at this; exact this) z⟩
      · rw [clsE, gfr_e hX1.1, Option.bind_some, hX1.2.1, gfr_e (by rw [C1.1.1.1]), Option.bind_some, C1.1.1.2.2.1.2.2.2.1, gfi_e a2, Option.bind_some, a4, hp, lar_e (k := 247) (l := 32) (j := p) C1.1.1.2.2.2.1 (by decide) (by decide) (w32_nn (by omega)) (by omega), Option.bind_some, C1.1.2.2.2.2.1 p pN, gfi_e a2, Option.bind_some, a3, gfr_e hX1.1, Option.bind_some, hX1.2.2, gfr_e (by rw [C1.2.1.1.1]), Option.bind_some, C1.2.1.1.2.2.2.1, ck_e (by rw [(C1.2.2.2.2.1.2.2 p pN).1.1]), c1, Option.bind_some, cadd1]
      · rw [refE, p2_e, Option.bind_some, hp]
        show (f_X16_deliver (p : Int) x.1 (st2 V2 156 142 (vI V2 156 142 + 1))).bind _ = _
        rw [c2, Option.bind_some]
        rfl
      · have e1 : vI V3 156 142 = vI (st2 V2 156 142 (vI V2 156 142 + 1)) 156 142 := by show w32 _ = w32 _; rw [c5 156 142 (by unfold kp1; omega)]
        rw [e1, vI_eq rfl, v142, w32_id (by omega) (by omega)]
        rfl
  · left
    have dn0 : (decide (0 < (wfl (yw Y)).length) && decide (((wfl (yw Y)).getD 0 dg0).2.2.1 ≤ tm)) = false := by
      cases e : (decide (0 < (wfl (yw Y)).length) && decide (((wfl (yw Y)).getD 0 dg0).2.2.1 ≤ tm)) with
      | false => rfl
      | true => rw [Bool.and_eq_true, decide_eq_true_eq, decide_eq_true_eq] at e; exact absurd e cd
    rw [dn0] at due
    obtain ⟨o, ho⟩ := hP.1.2.2.2.2.2.2
    have nd := v_nextDue hP.1 ho
    rw [if_neg cd] at nd
    refine ⟨-1, nd, ?_, ?_⟩
    · unfold b_X1_tick_15
      rw [gfr_e hX.1, Option.bind_some, hX.2.2, ck_e k7, due, Option.bind_some, if_pos (by decide)]
    · unfold b_X16_tick_15
      rw [if_pos (by decide)]
theorem JD_k {k' : Nat} (h : JD M V m al N pa own sd ps sn pu rf tm tk pb as nb Lb LA dn KL k K nS B Y) (hk : k ≤ k') : JD M V m al N pa own sd ps sn pu rf tm tk pb as nb Lb LA dn KL k' K nS B Y := by
  obtain ⟨h, lf, b0, eg, mn, sto, fa, Z, ev, oth, tn, ⟨j1, j2, j3, j4, ⟨p1, p2, p3, p4, p5⟩, j6⟩, b⟩ := h
  exact ⟨h, lf, b0, eg, mn, sto, fa, Z, ev, oth, tn, ⟨j1, j2, j3, j4, ⟨p1, p2, by omega, p4, p5⟩, j6⟩, b⟩
theorem JD_un (h : JD M V m al N pa own sd ps sn pu rf tm tk pb as nb Lb LA dn KL k K nS B Y) : UN M := by
  obtain ⟨h, lf, b0, eg, mn, sto, fa, Z, ev, oth, tn, hJ, b⟩ := h
  exact hJ.1.1.1.1.2.2.2.2.1.1
theorem j_dloop (hN : 12 + N ≤ 44) (hal : al ≤ 8) (hnS : ∀ t, t < 44 → nS t ≤ 70000) : ∀ (k K c fu : Nat) (M : MM) (V : VV) (Y : Ys), JD M V m al N pa own sd ps sn pu rf tm tk pb as nb Lb LA dn KL k K nS B Y → X0 M → K + k < 130000000 → k < fu → (0 ≤ vI V 156 142 ∧ vI V 156 142 + k + 1 < 2147483648) →
    ∃ (M' : MM) (V' : VV) (Y' : Ys) (d : Nat), d ≤ k ∧ lpN (fun s : Int × MM => b_X1_tick_15 ((0 : Nat) : Int) s.1 s.2) fu ((c : Int), M) = j_X1_tick_79 ((0 : Nat) : Int) ((c + d : Nat) : Int) M' ∧ ((f_X16_nextDue V).bind fun v => lpN (fun s : Int × VV => b_X16_tick_15 s.1 s.2) fu (v, V)) = j_X16_tick_75 V' ∧ JD M' V' m al N pa own sd ps sn pu rf tm tk pb as nb Lb LA dn KL k (K + k) nS B Y' ∧ FK FG M M' ∧ (∀ a i, kp2 a i → V' a i = V a i) ∧ vI V' 156 142 = vI V 156 142 + d ∧ YR Y Y' ∧ (DE ps (yw Y) → DE ps (yw Y')) := by
  intro k
  induction k with
  | zero =>
    intro K c fu M V Y hJ hX hK hf h142
    obtain ⟨f, rfl⟩ : ∃ f, fu = f + 1 := ⟨fu - 1, by omega⟩
    rcases j_dstep (c := c) hJ hX hN hal (by omega) hnS (by omega) with ⟨o, a1, a2, a3⟩ | ⟨o, M', V', Y', d, k', a0, _⟩
    · refine ⟨M, V, Y, 0, Nat.le_refl _, lpN_xit (b := fun s : Int × MM => b_X1_tick_15 ((0 : Nat) : Int) s.1 s.2) (s := ((c : Int), M)) a2, ?_, hJ, .refl, fun _ _ _ => rfl, (by omega), .refl, fun z => z⟩
      rw [a1, Option.bind_some]
      exact lpN_xit (b := fun s : Int × VV => b_X16_tick_15 s.1 s.2) (s := (o, V)) a3
    · omega
  | succ k ih =>
    intro K c fu M V Y hJ hX hK hf h142
    obtain ⟨f, rfl⟩ : ∃ f, fu = f + 1 := ⟨fu - 1, by omega⟩
    rcases j_dstep (c := c) hJ hX hN hal (by omega) hnS (by omega) with ⟨o, a1, a2, a3⟩ | ⟨o, M1, V1, Y1, d, k', a0, a1, a2, a3, a4, a5, a6, a7, a8, a9, aD⟩
    · refine ⟨M, V, Y, 0, Nat.zero_le _, lpN_xit (b := fun s : Int × MM => b_X1_tick_15 ((0 : Nat) : Int) s.1 s.2) (s := ((c : Int), M)) a2, ?_, JD_K hJ (by omega), .refl, fun _ _ _ => rfl, (by omega), .refl, fun z => z⟩
      rw [a1, Option.bind_some]
      exact lpN_xit (b := fun s : Int × VV => b_X16_tick_15 s.1 s.2) (s := (o, V)) a3
    · have ek : k' = k := by omega
      subst ek
      obtain ⟨M2, V2, Y2, d2, b1, b2, b3, b4, b5, b6, b7, b8, bD⟩ := ih (K + 1) (c + d) f M1 V1 Y1 a5 (X0_fk a6 (JD_un hJ) rfl hX) (by omega) (by omega) (by omega)
      refine ⟨M2, V2, Y2, d + d2, by omega, ?_, ?_, JD_k (JD_K b4 (by omega)) (by omega), a6.trans b5, fun a i z => (b6 a i z).trans (a7 a i z), by omega, a9.trans b8, fun z => bD (aD z)⟩
      · rw [show c + (d + d2) = c + d + d2 by omega]
        exact (lpN_cnt (b := fun s : Int × MM => b_X1_tick_15 ((0 : Nat) : Int) s.1 s.2) (s := ((c : Int), M)) a3).trans b2
      · rw [a2, Option.bind_some]
        cases e : f_X16_nextDue V1 with
        | none =>
          exfalso
          obtain ⟨h, lf, b0, eg, mn, sto, fa, Z, ev, oth, tn, hJ1, _⟩ := a5
          obtain ⟨L, hP, hL⟩ := hJ1.2.1.1
          obtain ⟨o', ho⟩ := hP.1.2.2.2.2.2.2
          rw [v_nextDue hP.1 ho] at e
          cases e
        | some v =>
          rw [e, Option.bind_some] at a4 b3
          exact (lpN_cnt (b := fun s : Int × VV => b_X16_tick_15 s.1 s.2) (s := (o, V)) a4).trans b3
end JDLOOP
