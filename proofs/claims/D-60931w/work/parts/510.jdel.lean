/-! a datagram is delivered, both sides -/
def dl2C (q : Nat) (ad : Int) (M2 : MM) : Option MM := ck 4 ((22 : Nat) : Int) M2 <| (f_X4_type ((22 : Nat) : Int) M2).bind fun v5 => (f_X17_isAnswer v5).bind fun v6 => if w32 v6 = 0 then ck 4 ((22 : Nat) : Int) M2 <| (f_X4_type ((22 : Nat) : Int) M2).bind fun v7 => if w32 v7 = w32 15 then (gfr 17 5 ((q : Nat) : Int) M2).bind fun v10 => ck 20 v10 M2 <| (f_X20_lose v10 ((42 : Nat) : Int) ad M2).bind fun M5 => j_X17_deliver_110 M5 else ck 17 ((q : Nat) : Int) M2 <| (f_X17_see ((q : Nat) : Int) ((42 : Nat) : Int) ad M2).bind fun M3 => ck 17 ((q : Nat) : Int) M3 <| (f_X17_answers ((q : Nat) : Int) ((22 : Nat) : Int) ((42 : Nat) : Int) M3).bind fun r1 => if w32 r1.1 = 0 then j_X17_deliver_110 r1.2 else (gfr 17 0 ((q : Nat) : Int) r1.2).bind fun v8 => (gfr 6 9 v8 r1.2).bind fun v9 => ck 17 ((q : Nat) : Int) r1.2 <| (f_X17_send ((q : Nat) : Int) ad v9 r1.2).bind fun M4 => j_X17_deliver_110 M4 else ck 17 ((q : Nat) : Int) M2 <| (f_X17_takeAnswer ((q : Nat) : Int) ad ((22 : Nat) : Int) ((42 : Nat) : Int) M2).bind fun M6 => j_X17_deliver_110 M6
def dl2V (p : Nat) (ad : Int) (V2 : VV) : Option VV := (l2 271 460 0 V2).bind fun v3 => if w32 v3 = w32 15 then (f_X16_lose (p : Int) 272 0 ad V2).bind fun V7 => j_X16_deliver_208 V7 else (l2 271 460 0 V2).bind fun v4 => (rmi v4 2).bind fun v5 => if w32 v5 = w32 1 then (f_X16_see (p : Int) 272 0 ad V2).bind fun V6 => j_X16_deliver_91 (p : Int) ad V6 else tkV (p : Int) ad V2
section JDEL
variable {S : Nat → Bool} {M M1 : MM} {V V' V2 W : VV} {m al N p t t' nb oth Z L k kx n s K q i r0 : Nat} {pa tk : Nat → Nat} {own : Nat → Ky} {sd ps sn pu rf : Nat → Int} {tm ad x1 : Int} {lf : Nat → Nat} {b0 B : Nat × Nat} {h h' : Gh} {eg : EG} {pb as : Nat → Option Nat} {mn sto : Nat → Int} {fa : Nat → Nat} {Y Y0 Y1 Ya Y' : Ys} {Lb : Nat → List Trm} {LA : Nat → List Nat} {dn : Nat → Int} {ev tn nS : Nat → Nat} {w w' : Wd} {KL : List Ky} {key : Ky} {l : List Int} {r : Option MM} {y x : Rq} {R : List Rq}
theorem isAn {v : Int} (hv : 0 ≤ v ∧ v < 256) : f_X17_isAnswer v = some (b2i (decide (v % 2 = 0))) := by
  unfold f_X17_isAnswer
  obtain ⟨a, ha⟩ : ∃ a : Nat, v = (a : Int) := ⟨v.toNat, by omega⟩
  rw [ha, rmi_e (p := a) (q := 2) (w32_nn (by omega)) (by decide) (by decide), Option.bind_some, w32_nn (by omega)]
  by_cases c : a % 2 = 0
  · rw [if_pos (by omega), show decide ((a : Int) % 2 = 0) = true from decide_eq_true (by omega)]; rfl
  · rw [if_neg (by omega), show decide ((a : Int) % 2 = 0) = false from decide_eq_false (by omega)]; rfl
theorem PkC_m {a : Nat} (f : FK S M M1) (hu : UN M) (hp : PkC M 22 l) (h22 : mo M 22 = 9 ∧ mo M 23 = 9) (h9 : S 9 = false) : PkC M1 22 l ∧ (mo M1 22 = 9 ∧ mo M1 23 = 9) :=
  ⟨PkC_fk f hu hp (by rw [h22.1]; exact h9) (by rw [h22.2]; exact h9), by rw [exa_mo f (hu.lt (by rw [hp.1.1]; decide))]; exact h22.1, by rw [exa_mo f (hu.lt (by rw [hp.1.2.2]; decide))]; exact h22.2⟩
theorem InV_ag (hI : InV V l) (h : ∀ a i, (a = 271 ∨ (a = 156 ∧ i = 138)) → vI W a i = vI V a i) : InV W l := ⟨by rw [h 156 138 (Or.inr ⟨rfl, rfl⟩)]; exact hI.1, hI.2.1, fun i hi => by rw [h 271 i (Or.inl rfl)]; exact hI.2.2 i hi⟩
theorem JR_of {M0 : MM} {V0 : VV} {r2 : Option VV} (h : JR r r2 M1 W m al N pa own sd ps sn pu rf tm tk pb as nb Lb LA dn KL k K nS B Y1 p) (f : FK FD M0 M1) (g : Kp1 V0 W) (y : YR Y0 Y1) (q : EQ p (yw Y0) (yw Y1)) : JR r r2 M0 V0 m al N pa own sd ps sn pu rf tm tk pb as nb Lb LA dn KL k K nS B Y0 p := by
  obtain ⟨M', V', Y', a1, a2, a3, a4, a5, a6, a7⟩ := h
  exact ⟨M', V', Y', a1, a2, a3, f.trans a4, g.trans a5, y.trans a6, q.trans a7⟩
theorem c_dl0 (k4 : (kd M1 22).1 = 4) (hq1 : PkC M1 22 l) (pe1 : PeS M1 (pa p) p) (hb : BdS M1 m) (t1 : ∀ {β : Type} (c : MM → Option β), ((gfi 17 (11 + 4) ((pa p : Nat) : Int) M).bind fun v1 => (pfi 17 (11 + 4) ((pa p : Nat) : Int) (v1 + 1) M).bind c) = c M1) :
    f_X17_deliver ((pa p : Nat) : Int) ad ((22 : Nat) : Int) M = if w32 (b2i (wellL l)) = 0 then (gfi 17 11 ((pa p : Nat) : Int) M1).bind fun v11 => (pfi 17 11 ((pa p : Nat) : Int) (v11 + 1) M1).bind fun M7 => some M7 else (f_X4_getKey ((22 : Nat) : Int) 5 ((42 : Nat) : Int) M1).bind (dl2C (pa p) ad) := by
  unfold f_X17_deliver
  refine (t1 _).trans ?_
  rw [ck_e k4, c_isWell hq1, Option.bind_some, gfr_e (by rw [pe1.1]), Option.bind_some, pe1.2.2.1.1, gfr_e (by rw [hb.1]), Option.bind_some, hb.2.2.1.2.2.2.2.2.2.2.2.2.1, ck_e k4]
  rfl
theorem v_dl0 {V1 : VV} (hI1 : InV V1 l) (hb : isBL l) (t2 : ∀ {β : Type} (c : VV → Option β), ((l2 172 160 (((5 * p + 4 : Nat)) : Int) V).bind fun v1 => (s2 172 160 (((5 * p + 4 : Nat)) : Int) (v1 + 1) V).bind c) = c V1) : f_X16_deliver (p : Int) ad V = if w32 (b2i (wellL l)) = 0 then (l2 172 160 (5 * (p : Int)) V1).bind fun v9 => (s2 172 160 (5 * (p : Int)) (v9 + 1) V1).bind fun V8 => some V8 else (f_X16_keyAt 272 5 V1).bind (dl2V p ad) := by
  unfold f_X16_deliver
  refine (t2 _).trans ?_
  rw [v_wellFormed hI1 hb hI1.2.1, Option.bind_some]
  rfl
theorem j_dl2 {M2 : MM} (a3 : JX M2 V2 m al N pa own sd ps sn pu rf tm tk pb as nb Lb LA dn KL k h lf b0 eg mn sto fa Z ev oth tn Y) (cw1 : CTR N own nb K nS B lf b0 Z ev oth tn Y) (hN : 12 + N ≤ 44) (hal : al ≤ 8) (hK : K < 130000000) (hnS : ∀ t, t < 44 → nS t ≤ 70000) (hp : p < N) (hq2 : PkC M2 22 l) (hI2 : InV V2 l) (hb : isBL l) (hwl : wellL l = true) (hkl : kyP l 5 ∈ KL) (a4 : ky (kC M2 42) = kyP l 5) (a5 : gk V2 272 0 = kyP l 5) (ha : 0 ≤ ad ∧ ad < 32) (h22b : mo M2 22 = 9 ∧ mo M2 23 = 9) :
    JR (dl2C (pa p) ad M2) (dl2V p ad V2) M2 V2 m al N pa own sd ps sn pu rf tm tk pb as nb Lb LA dn KL k (K + 1) nS B Y p := by
  have hZ : Z ≤ 2 * K := cw1.2.2.1
  have hS : sumN ev N + oth ≤ 3 * K := cw1.2.1
  have hl := wl_len hwl
  have C2 := a3.1.1.1.1
  have pe2 := (C2.2.2.2.2.1.2.2 p hp).1
  have k4b : (kd M2 22).1 = 4 := hq2.1.1
  have k17b : (kd M2 (pa p)).1 = 17 := by rw [pe2.1]
  have ty0 : rU M2 (22 + 1) 0 = l.getD 0 0 := hq2.2.2.2 0 (by omega)
  have ty := wl_ty hwl
  have v0 : l2 271 460 0 V2 = some (l.getD 0 0) := by
    have := l2_n (a := 271) (n := 460) (j := 0) (V := V2) (by decide) (by decide)
    rw [hI2.2.2 0 (by omega)] at this
    exact this
  obtain ⟨tyn, htn⟩ : ∃ a : Nat, l.getD 0 0 = (a : Int) := ⟨(l.getD 0 0).toNat, by omega⟩
  have rm2 : rmi (l.getD 0 0) 2 = some (((tyn % 2 : Nat)) : Int) := by rw [htn]; exact rmi_e (p := tyn) (q := 2) (w32_nn (by omega)) (by decide) (by decide)
  have wty : w32 (l.getD 0 0) = l.getD 0 0 := w32_id (by omega) (by omega)
  have fin1 : ∀ (x : Option MM), (x.bind fun M6 => j_X17_deliver_110 M6) = x := fun x => by cases x <;> rfl
  have fin2 : ∀ (x : Option VV), (x.bind fun M6 => j_X16_deliver_208 M6) = x := fun x => by cases x <;> rfl
  unfold dl2C dl2V
  rw [ck_e k4b, e_type hq2.1, Option.bind_some, ty0, isAn (by omega), Option.bind_some, w32_b2i, v0, Option.bind_some, Option.bind_some, Option.bind_some, rm2, Option.bind_some]
  have w15 : w32 15 = 15 := by decide
  have w1 : w32 1 = 1 := by decide
  rw [wty, w15, w1]
  by_cases c15 : l.getD 0 0 = 15
  · obtain ⟨M3, V3, h3, Z3, d1, d2, d3, d4, d5, d6⟩ := j_lose (kx := 42) (e := 272) (q := 0) (n := 5) (ad := ad) a3 hN hp C2.1.1.2.2.2.2.2.2.1.2.2.2.2.1 a4 a5 ⟨by decide, by decide, by decide, by decide, by decide⟩ (by decide) (by decide) ha (by omega)
    have d2 : f_X16_lose (p : Int) 272 0 ad V2 = some V3 := d2
    refine ⟨M3, V3, _, ?_, ?_, ⟨h3, lf, b0, eg, mn, sto, fa, Z3, ev, oth, tn, d3, CTR_w cw1 (by omega) (by omega) (by omega)⟩, (d5.mono (fun z hz => by rw [beq_iff_eq.mp hz]; rfl)), Kp1_fr d6 rfl rfl, .refl, EQ_T⟩
    · rw [show decide (l.getD 0 0 % 2 = 0) = false from decide_eq_false (by omega), if_pos (show b2i false = 0 from rfl), ck_e k4b, if_pos c15, gfr_e k17b, Option.bind_some, pe2.2.2.1.2.2.1, ck_e (C2.2.2.1.2.2.2.2.2 p hp).2.1.2.1.1, d1]
      rfl
    · rw [if_pos c15, d2]
      rfl
  · by_cases c2 : l.getD 0 0 % 2 = 1
    · have hB : bdg N ev oth := CTR_bdg cw1 (by omega) (by omega)
      obtain ⟨M3, V3, h3, Z3, d1, d2, d3, d4, d5, d6, d7, d8⟩ := j_see (kx := 42) (e := 272) (q := 0) (n := 5) (ad := ad) a3 hN hB hp C2.1.1.2.2.2.2.2.2.1.2.2.2.2.1 (by rw [C2.1.1.2.2.2.2.2.2.2.1.2.2.2.2.1]; decide) a4 hkl a5 ⟨by decide, by decide, by decide, by decide, by decide⟩ (by decide) (by decide) (fun i => Or.inr (Or.inl rfl)) ha (by omega)
      have d2 : f_X16_see (p : Int) 272 0 ad V2 = some V3 := d2
      obtain ⟨hq3, h22c⟩ := PkC_m (a := 0) d5 C2.2.2.2.2.1.1 hq2 h22b rfl
      have hI3 : InV V3 l := InV_ag hI2 (fun a i z => d7.vI (see_no z))
      have g272 : gk V3 272 0 = kyP l 5 := by
        rw [← a5]
        exact gk_ag (fun i => d7.vI (by
          show ¬ (mv 272 i = 2 ∨ PG 272 i)
          unfold PG PO
          rw [show mv 272 i = 9 from rfl]; omega))
      have k42 : ky (kC M3 42) = kyP l 5 := by
        rw [← a4]
        have e : ∀ i, kC M3 42 i = kC M2 42 i := fun i => by
          show w32 _ = w32 _
          rw [(d6 43 (Or.inr (Or.inr (Or.inr rfl)))).1 i]
        exact ky_eq.mpr ⟨e 0, e 1, e 2, e 3, e 4⟩
      obtain ⟨M4, V4, h4, e1, e2, e3, e4, e5⟩ := j_answer (ad := ad) d3 hN ⟨by omega, by omega⟩ hp hq3 hI3 hwl ⟨c2, c15⟩ k42 g272 ha
      have pe3 := (d3.1.1.1.1.2.2.2.2.1.2.2 p hp).1
      refine ⟨M4, V4, _, ?_, ?_, ⟨h4, lf, b0, eg, mn, sto, fa, Z3, ev, oth + 1 + 1, tn, e3, CTR_w cw1 (by omega) (by omega) (by omega)⟩, (d5.mono FD_5).trans (e4.mono (fun z hz => by unfold A357 at hz; unfold FD; simp only [Bool.or_eq_true, beq_iff_eq] at hz ⊢; omega)), ((Kp1_fs d7 (fun a i z => by
        rcases z with z | z
        · rw [z]; rfl
        · exact PG_5 z))).trans (Kp1_fr e5 rfl rfl), .refl, EQ.trans (EQ_see (w := yw Y)) EQ_ans⟩
      · rw [show decide (l.getD 0 0 % 2 = 0) = false from decide_eq_false (by omega), if_pos (show b2i false = 0 from rfl), ck_e k4b, if_neg c15, ck_e k17b, d1, Option.bind_some, ck_e (by rw [pe3.1])]
        exact e1
      · rw [if_neg c15, if_pos (by rw [w32_nn (by omega)]; omega), d2, Option.bind_some]
        unfold j_X16_deliver_91
        rw [e2]; rfl
    · have jt := j_take (ad := ad) a3 cw1 hN hal hK hnS hp hq2 hI2 hb hwl a4 hkl a5 ha h22b
      rw [show decide (l.getD 0 0 % 2 = 0) = true from decide_eq_true (by omega), if_neg (by decide), ck_e k17b, if_neg c15, if_neg (by rw [w32_nn (by omega)]; omega)]
      rw [fin1]
      exact jt
theorem j_deliver (hJ : JD M V m al N pa own sd ps sn pu rf tm tk pb as nb Lb LA dn KL k K nS B Y) (hN : 12 + N ≤ 44) (hal : al ≤ 8) (hK : K < 130000000) (hnS : ∀ t, t < 44 → nS t ≤ 70000) (hp : p < N) (hq : PkC M 22 l) (hI : InV V l) (hb : isBL l) (hkl : kyP l 5 ∈ KL) (ha : 0 ≤ ad ∧ ad < 32) (h22 : mo M 22 = 9 ∧ mo M 23 = 9) :
    JR (f_X17_deliver ((pa p : Nat) : Int) ad ((22 : Nat) : Int) M) (f_X16_deliver (p : Int) ad V) M V m al N pa own sd ps sn pu rf tm tk pb as nb Lb LA dn KL k (K + 1) nS B Y p := by
  obtain ⟨h, lf, b0, eg, mn, sto, fa, Z, ev, oth, tn, hJ, hCT⟩ := hJ
  have hZ : Z ≤ 2 * K := hCT.2.2.1
  have hS : sumN ev N + oth ≤ 3 * K := hCT.2.1
  obtain ⟨t1, t2, t3, t4⟩ := j_tally (j := 4) hJ hN hp (by decide)
  have hu := hJ.1.1.1.1.2.2.2.2.1.1
  have hu1 := t3.1.1.1.1.2.2.2.2.1.1
  generalize sI M (pa p) (11 + 4) (rI M (pa p) (11 + 4) + 1) = M1 at *
  generalize hV1 : st2 V 172 (5 * p + 4) (vI V 172 (5 * p + 4) + 1) = V1 at *
  obtain ⟨hq1, h22'⟩ := PkC_m (a := 0) t4 hu hq h22 rfl
  have hI1 : InV V1 l := InV_ag hI (fun a i z => by rw [← hV1, vI_ne (by omega)])
  have fM1 : FK FD M M1 := t4.mono (fun z hz => by rw [beq_iff_eq.mp hz]; rfl)
  have kV1 : Kp1 V V1 := by rw [← hV1]; exact Kp1_fr (FrV_st (S := fun z => z == 5) rfl) rfl rfl
  have C1 := t3.1.1.1.1
  have pe1 := (C1.2.2.2.2.1.2.2 p hp).1
  have k4 : (kd M1 22).1 = 4 := hq1.1.1
  have cw1 := CTR_w (w := setL (yw Y) (tlU (wtl (yw Y)) (5 * p + 4))) hCT (Nat.le_refl K) (Nat.le_refl _) (Nat.le_refl _)
  rw [c_dl0 k4 hq1 pe1 C1.1.1 t1, v_dl0 hI1 hb t2]
  cases hwl : wellL l with
  | false =>
    obtain ⟨u1, u2, u3, u4⟩ := j_tally (j := 0) t3 hN hp (by decide)
    refine ⟨_, _, _, (if_pos (by decide)).trans (u1 some), (if_pos (by decide)).trans (u2 some), ⟨h, lf, b0, eg, mn, sto, fa, Z, ev, oth, tn, u3, CTR_w cw1 (by omega) (by omega) (by omega)⟩, fM1.trans (u4.mono (fun z hz => by rw [beq_iff_eq.mp hz]; rfl)), kV1.trans (Kp1_fr (FrV_st (S := fun z => z == 5) rfl) rfl rfl), .refl, fun _ _ h => h⟩
  | true =>
    rw [if_neg (by decide), if_neg (by decide)]
    have hl := wl_len hwl
    obtain ⟨M2, V2, a1, a2, a3, a4, a5, a6, a7⟩ := j_key t3 hN hq1 hI1 hb hl
    obtain ⟨hq2, h22b⟩ := PkC_m (a := 0) a6 hu1 hq1 h22' rfl
    have hI2 : InV V2 l := InV_ag hI1 (fun a i z => a7.vI (by omega))
    have fM2 : FK FD M M2 := fM1.trans (a6.mono (fun z hz => by rw [beq_iff_eq.mp hz]; rfl))
    have kV2 : Kp1 V V2 := kV1.trans (fun a i z => a7 a i (by unfold kp1 at z; omega))
    rw [a1, a2, Option.bind_some, Option.bind_some]
    exact JR_of (j_dl2 (ad := ad) a3 cw1 hN hal hK hnS hp hq2 hI2 hb hwl hkl a4 a5 ha h22b) fM2 kV2 (YR.refl (Y := Y)) (EQ.refl (w := yw Y))
end JDEL
