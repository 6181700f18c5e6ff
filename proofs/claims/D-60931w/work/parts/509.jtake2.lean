/-! an answer comes to a peer, both sides -/
section JTAKE2
variable {S : Nat → Bool} {M M1 : MM} {V V' V2 W : VV} {m al N p t t' nb oth Z L k kx n s K q i r0 : Nat} {pa tk : Nat → Nat} {own : Nat → Ky} {sd ps sn pu rf : Nat → Int} {tm ad x1 : Int} {lf : Nat → Nat} {b0 B : Nat × Nat} {h h' : Gh} {eg : EG} {pb as : Nat → Option Nat} {mn sto : Nat → Int} {fa : Nat → Nat} {Y Y0 Y1 Ya Y' : Ys} {Lb : Nat → List Trm} {LA : Nat → List Nat} {dn : Nat → Int} {ev tn nS : Nat → Nat} {w w' : Wd} {KL : List Ky} {key : Ky} {l : List Int} {r : Option MM} {y x : Rq} {R : List Rq} {lk0 : Nat → LkA} {M2 : MM} {b1 b2 : Nat × Nat} {w1 w2 : Wd} {h1 h2 : Gh} {Bx : Nat → Nat}
/-- words of the reference's slot -/
theorem slot_w (hs : s < 1280) (ha : 0 ≤ vI V 204 s ∧ vI V 204 s < 44) : l2 204 1280 (s : Int) V = some (vI V 204 s) := l2_n hs (by decide)
/-- the tail of `deliver` in the reference -/
theorem v_tail (hs : s < 1280) (h4 : vI V 204 s < 44) :
    ((l2 204 1280 (s : Int) V).bind fun v7 => if w32 v7 < 0 then j_X16_deliver_208 V else if w32 v7 < 0 then j_X16_deliver_172 (s : Int) v7 0 V else j_X16_deliver_172 (s : Int) v7 v7 V) = if 0 ≤ vI V 204 s ∧ vI V 226 (vI V 204 s).toNat ≠ 0 ∧ vI V 205 s = vI V 231 (vI V 204 s).toNat then f_X16_answered (((vI V 204 s).toNat : Nat) : Int) (s : Int) V else some V := by
  rw [l2_n hs (by decide), Option.bind_some, w32_vI]
  by_cases c : vI V 204 s < 0
  · rw [if_pos c, if_neg (by omega)]; rfl
  rw [if_neg c, if_neg c]
  obtain ⟨t, ht⟩ : ∃ t : Nat, vI V 204 s = (t : Int) := ⟨(vI V 204 s).toNat, by omega⟩
  have t44 : t < 44 := by omega
  rw [ht, show ((t : Nat) : Int).toNat = t from Int.toNat_natCast t]
  unfold j_X16_deliver_172
  rw [l2_n t44 (by decide), Option.bind_some, w32_vI]
  by_cases c2 : vI V 226 t = 0
  · rw [if_pos c2, if_neg (fun z => z.2.1 c2)]; rfl
  rw [if_neg c2, l2_n hs (by decide), Option.bind_some, w32_nn (by omega), if_neg (by omega)]
  unfold j_X16_deliver_197
  rw [l2_n t44 (by decide), Option.bind_some, w32_vI, w32_vI]
  by_cases c3 : vI V 205 s = vI V 231 t
  · rw [if_pos c3, if_pos ⟨by omega, c2, c3⟩]
    unfold j_X16_deliver_208
    cases f_X16_answered (t : Int) (s : Int) V <;> rfl
  · rw [if_neg c3, if_neg (fun z => c3 z.2.2)]; rfl
theorem gQ_wk : qWrk (gQ V s) = if 0 ≤ vI V 204 s ∧ vI V 205 s = vI V 231 (vI V 204 s).toNat then some (vI V 204 s).toNat else none := rfl
/-- the class's request is gone, the sender's key is kept -/
theorem c_tk1 (hC1 : CPs M1 m al N pa own sd ps sn pu rf tm lf b1 w1 h1) (hp : p < N) (hq1 : PkC M1 22 l) (hl : 25 ≤ l.length) (hfd : f_X17_find ((pa p : Nat) : Int) (wdL l) M1 = some (i : Int)) (hrm : f_X17_remove ((pa p : Nat) : Int) (i : Int) M1 = some ((r0 : Int), M2)) (hC2 : CPs M2 m al N pa own sd ps sn pu rf tm lf b2 w2 h2) (ir : isRq M2 r0) (rq : RqC M2 N pa Bx lf r0 y) :
    ∃ M3, tkC ((pa p : Nat) : Int) ad ((22 : Nat) : Int) ((42 : Nat) : Int) M1 = (if rR M3 r0 9 = -1 then some M3 else (gfi 11 5 (rR M3 r0 9) M3).bind fun v11 => (gfi 24 5 (r0 : Int) M3).bind fun v12 => if w32 v11 = w32 v12 then ck 11 (rR M3 r0 9) M3 (f_X11_answered (rR M3 r0 9) (tgQ y) ((40 : Nat) : Int) ((22 : Nat) : Int) M3) else some M3) ∧ CPs M3 m al N pa own sd ps sn pu rf tm lf b2 w2 h2 ∧ FK (fun z => z == 7) M2 M3 ∧ ky (kC M3 40) = ky (kC M2 42) ∧ (kd M3 r0).1 = 24 ∧ wkC M3 N pa lf r0 (qWrk y) := by
  have hu := hC2.2.2.2.2.1.1
  obtain ⟨g1, g2, ⟨g3, g4, g5, g6, g7, g8, g9, g10, g11, g12, g13, g14⟩, _, _, _, ⟨p1, p2, p3, p4, p5, p6⟩, b8, b9⟩ := id hC2.1.1
  obtain ⟨M3, a1, a2, a3⟩ := e_X3_set p4 p5
  have mob := BdS_mo hC2.1.1
  obtain ⟨c1, c2⟩ := cp_board hC2 a3 (by decide) (fun z _ hz => by rw [hz]; exact mob.2.2.2.2.2.2.2.1.2)
  have f := c2 (fun z => z == 7) rfl
  have k4 : (kd M1 22).1 = 4 := hq1.1.1
  have pe1 := (hC1.2.2.2.2.1.2.2 p hp).1
  have pe2 := (hC2.2.2.2.2.1.2.2 p hp).1
  have pe3 := (c1.2.2.2.2.1.2.2 p hp).1
  have k17 : (kd M1 (pa p)).1 = 17 := by rw [pe1.1]
  have k17b : (kd M2 (pa p)).1 = 17 := by rw [pe2.1]
  have k17c : (kd M3 (pa p)).1 = 17 := by rw [pe3.1]
  have k18 : (kd M2 18).1 = 6 := by rw [g1]
  have kr : (kd M2 r0).1 = 24 := by rw [ir.1]
  have lr : r0 < nN M2 := hu.lt (by rw [kr]; decide)
  have mr : mo M2 r0 = 5 := mo_cl ir.1 (by decide) (by decide)
  have kr3 : (kd M3 r0).1 = 24 := by rw [f.kd lr]; exact kr
  have r9 : rR M3 r0 9 = rR M2 r0 9 := f.rR lr (by rw [mr]; rfl) 9
  have ri : ∀ j, rI M3 r0 j = rI M2 r0 j := f.rI lr (by rw [mr]; rfl)
  obtain ⟨g1', g2', ⟨g3', g4', g5', g6', g7', g8', g9', g10', g11', _⟩, _⟩ := id c1.1.1
  refine ⟨M3, ?_, c1, f, ?_, kr3, ?_⟩
  · unfold tkC
    rw [ck_e k4, pk_num hq1 (by omega), Option.bind_some, ck_e k17, hfd, Option.bind_some, ck_e k17, hrm, Option.bind_some]
    simp only
    rw [gfr_e kr, Option.bind_some, gfr_e k17b, Option.bind_some, pe2.2.2.1.1, gfr_e k18, Option.bind_some, g11, ck_e p4.1, a1, Option.bind_some, ← r9]
    have inner : ((gfi 24 6 (r0 : Int) M3).bind fun v13 => (gfr 17 0 ((pa p : Nat) : Int) M3).bind fun v14 => (gfr 6 11 v14 M3).bind fun v15 => ck 11 (rR M3 r0 9) M3 <| (f_X11_answered (rR M3 r0 9) v13 v15 ((22 : Nat) : Int) M3).bind fun M3 => some M3) = ck 11 (rR M3 r0 9) M3 (f_X11_answered (rR M3 r0 9) (tgQ y) ((40 : Nat) : Int) ((22 : Nat) : Int) M3) := by
      rw [gfi_e kr3, Option.bind_some, gfr_e k17c, Option.bind_some, pe3.2.2.1.1, gfr_e (by rw [g1']), Option.bind_some, g11', ri 6, rq.2.2.2.2.2.1]
      congr 1
      cases f_X11_answered (rR M3 r0 9) (tgQ y) ((40 : Nat) : Int) ((22 : Nat) : Int) M3 <;> rfl
    rw [inner]
  · exact ky_eq.mpr ⟨a2 0 (by decide), a2 1 (by decide), a2 2 (by decide), a2 3 (by decide), a2 4 (by decide)⟩
  · have hw := rq.2.2.2.2.2.2.2.2.1
    cases c : qWrk y with
    | none =>
      rw [c] at hw
      rcases hw with z | ⟨t, t1, t2, t3⟩
      · left; rw [r9]; exact z
      · right; exact ⟨t, t1, by rw [r9]; exact t2, by rw [ri]; exact t3⟩
    | some t =>
      rw [c] at hw
      obtain ⟨t1, t2, t3⟩ := hw
      exact ⟨t1, by rw [r9]; exact t2, by rw [ri]; exact t3⟩
theorem see_no {a j : Nat} (hz : a = 271 ∨ (a = 156 ∧ j = 138)) : ¬ (mv a j = 2 ∨ PG a j) := by
  unfold PG PO
  rcases hz with rfl | ⟨rfl, rfl⟩
  · have : mv 271 j = 9 := rfl
    rw [this]; omega
  · have : mv 156 138 = 9 := rfl
    rw [this]; omega
/-- an answer is taken or not -/
theorem j_take (hJ : JX M V m al N pa own sd ps sn pu rf tm tk pb as nb Lb LA dn KL k h lf b0 eg mn sto fa Z ev oth tn Y) (hCT : CTR N own nb K nS B lf b0 Z ev oth tn Y) (hN : 12 + N ≤ 44) (hal : al ≤ 8) (hK : K < 130000000) (hnS : ∀ t, t < 44 → nS t ≤ 70000) (hp : p < N) (hq : PkC M 22 l) (hI : InV V l) (hb : isBL l) (hwl : wellL l = true) (hc : ky (kC M 42) = key) (hkl : key ∈ KL) (hv : gk V 272 0 = key) (ha : 0 ≤ ad ∧ ad < 32) (h22 : mo M 22 = 9 ∧ mo M 23 = 9) :
    JR (f_X17_takeAnswer ((pa p : Nat) : Int) ad ((22 : Nat) : Int) ((42 : Nat) : Int) M) (tkV (p : Int) ad V) M V m al N pa own sd ps sn pu rf tm tk pb as nb Lb LA dn KL k (K + 1) nS B Y p := by
  obtain ⟨j1, j2, j3, j4, j5, j6, j7⟩ := id hJ
  have hl := wl_len hwl
  have hC := j1.1.1.1
  have hB : bdg N ev oth := CTR_bdg hCT (by omega) (by omega)
  have hZ : Z ≤ 2 * K := hCT.2.2.1
  have hS : sumN ev N + oth ≤ 3 * K := hCT.2.1
  have hcs := c_tk0 hC j2.2.1 hp hq hl hc ha
  have p32 : p < 32 := by omega
  obtain ⟨L, hP, hL⟩ := j2.1
  have hRq := hP.2.2.2.2.1 p p32
  rcases v_awaited hRq p32 hI hb hl (w32_id (show -2147483648 ≤ ad by omega) (by omega)) with ⟨s, s1, s2, s3⟩ | ⟨s2, s3⟩
  · rw [hv] at s3
    have ym := rq_slot hRq s1
    have s40 : s < 1280 := by
      have := (List.mem_filter.mp s1).1
      obtain ⟨i, hi, e⟩ := rws_mem.mp this
      omega
    obtain ⟨M1, V1, h1, Z1, a1, a2, a3, a4, a5, a6, a7, a8⟩ := j_see (kx := 42) (e := 272) (q := 0) (n := 5) hJ hN hB hp hC.1.1.2.2.2.2.2.2.1.2.2.2.2.1 (by rw [hC.1.1.2.2.2.2.2.2.2.1.2.2.2.2.1]; decide) hc hkl hv ⟨by decide, by decide, by decide, by decide, by decide⟩ (by decide) (by decide) (fun i => Or.inr (Or.inl rfl)) ha (by omega)
    have a2 : f_X16_see (p : Int) 272 0 ad V = some V1 := a2
    have hu := hC.2.2.2.2.1.1
    have C1 := a3.1.1.1.1
    have hq1 : PkC M1 22 l := PkC_fk a5 hu hq (by rw [h22.1]; rfl) (by rw [h22.2]; rfl)
    obtain ⟨L1, hP1, hL1⟩ := a3.2.1.1
    have hRq1 := hP1.2.2.2.2.1 p p32
    have o1 := a3.2.1.2.1
    have s1' := sl_SK a8 s1
    have pw := (o1.2.2.2 p hp).2.2.2.2.1
    have ge : gQ V1 s = gQ V s := num_uq pw (rq_slot hRq1 s1') (see_mem ym) (sl_num a8 s1)
    obtain ⟨⟨⟨w1, w2⟩, w3⟩, w4⟩ := aw_e.mp s3
    rcases c_findQ C1.2.2.2.2.2.1 C1.2.2.2.2.1 hp (wd4_w (f := fun j => l.getD (1 + j) 0)) with ⟨i, i1, i2, i3, i4⟩ | ⟨i2, i3⟩
    case inr => exact absurd w1 (i3 _ (see_mem ym))
    have ye : gQ V s = (wQ (seeY m N own sd tm (yw Y) p key ad) p).getD i q0 := num_uq pw (see_mem ym) (getD_mem i1) (w1.trans i3.symm)
    obtain ⟨M2, h2, r0, Bx, r1, r2, r3, r4, r5, r6, r7, r8, r9, r10⟩ := j_rm a3 hN hp i1 ye s1' ge
    obtain ⟨M3, t1, t2, t3, t4, t5, t6⟩ := c_tk1 (ad := ad) C1 hp hq1 hl i2 r1 r6.1.1.1 r3 r4
    have cw3 := CW_w r6 (fun t ht z1 z2 => wE_h3 (Y := setW Y (seeY m N own sd tm (yw Y) p key ad)) hN a3.2.2.1 t ht z1 z2) t2 t3 (by decide)
    have fM : FK P5 M M3 := (a5.trans (r5.mono (fun z hz => by unfold P5; simp only [Bool.or_eq_true, beq_iff_eq] at hz ⊢; omega))).trans (t3.mono (fun z hz => by rw [beq_iff_eq.mp hz]; rfl))
    have kV : Kp1 V (st2 V1 197 s 0) := (Kp1_fs a7 (fun a i z => by
      rcases z with z | z
      · rw [z]; rfl
      · exact PG_5 z)).trans (Kp1_fr (FrV_st (S := fun z => z == 5) rfl) rfl rfl)
    have sf := sumN_fup (f := ev) (v := ev p + 1) N hp
    have vw : ∀ a, a ≠ 197 → vI (st2 V1 197 s 0) a s = vI V1 a s := fun a z => vI_ne (fun e => z e.1)
    have vt : ∀ x, vI (st2 V1 197 s 0) 231 x = vI V1 231 x := fun x => vI_ne (by omega)
    have s4 : vI (st2 V1 197 s 0) 204 s < 44 := by rw [vw 204 (by decide)]; exact (hRq1.2.2.2.2 s s1').2.1
    have tail := v_tail (V := st2 V1 197 s 0) s40 s4
    have ref0 : tkV (p : Int) ad V = if 0 ≤ vI (st2 V1 197 s 0) 204 s ∧ vI (st2 V1 197 s 0) 226 (vI (st2 V1 197 s 0) 204 s).toNat ≠ 0 ∧ vI (st2 V1 197 s 0) 205 s = vI (st2 V1 197 s 0) 231 (vI (st2 V1 197 s 0) 204 s).toNat then f_X16_answered (((vI (st2 V1 197 s 0) 204 s).toNat : Nat) : Int) (s : Int) (st2 V1 197 s 0) else some (st2 V1 197 s 0) := by
      unfold tkV
      rw [s2, Option.bind_some, if_neg (by rw [w32_nn (by omega)]; omega), a2, Option.bind_some, r2, Option.bind_some, tail]
    have cls0 := (hcs.1 _ ym s3).trans (by rw [a1, Option.bind_some, t1])
    have gw := gQ_wk (V := V1) (s := s)
    rw [ge] at gw
    cases cq : qWrk (gQ V s) with
    | none =>
      rw [cq] at t6 gw
      refine ⟨M3, st2 V1 197 s 0, setW (setW Y (seeY m N own sd tm (yw Y) p key ad)) (rmW (yw (setW Y (seeY m N own sd tm (yw Y) p key ad))) p i), ?_, ?_, ⟨h2, lf, b0, eg, mn, sto, fa, Z1, fup ev p (ev p + 1), oth + 1, tn, ⟨cw3, r7, fun t ht => r8 t ht (by rw [cq]; exact fun e => by cases e), j4, r9, j6, fun q hq => a3.2.2.2.2.2.2 q hq⟩, CTR_w hCT (by omega) (by omega) (by omega)⟩, fM.mono FD_5, kV, .refl, EQ.trans (EQ_see (w := yw Y)) EQ_Q⟩
      · rw [cls0]; exact pay_none cw3.1.1.2.1 t6 t5
      · rw [ref0, if_neg]
        intro z
        rw [vw 204 (by decide), vw 205 (by decide), vt] at z
        rw [if_pos ⟨z.1, z.2.2⟩] at gw
        cases gw
    | some t =>
      rw [cq] at t6 gw
      obtain ⟨u1, u2, u3⟩ := t6
      obtain ⟨x1, x2, x3, x4⟩ := r10 t (by omega) cq
      have g4 : 0 ≤ vI V1 204 s ∧ vI V1 205 s = vI V1 231 (vI V1 204 s).toNat := by
        by_cases z : 0 ≤ vI V1 204 s ∧ vI V1 205 s = vI V1 231 (vI V1 204 s).toNat
        · exact z
        · rw [if_neg z] at gw; cases gw
      rw [if_pos g4] at gw
      have gt : t = (vI V1 204 s).toNat := by injection gw
      have ref1 : tkV (p : Int) ad V = f_X16_answered (t : Int) (s : Int) (st2 V1 197 s 0) := by
        rw [ref0, vw 204 (by decide), ← gt, if_pos]
        refine ⟨g4.1, ?_, ?_⟩
        · rw [r7.2.2.2.2.1 226 t (by unfold scA; omega)]
          show yv Y 226 t ≠ 0
          have x2 : yv Y 226 t = 1 := x2
          omega
        · rw [vw 205 (by decide), vt, gt]; exact g4.2
      have cls1 : f_X17_takeAnswer ((pa p : Nat) : Int) ad ((22 : Nat) : Int) ((42 : Nat) : Int) M = f_X11_answered ((wa pa t : Nat) : Int) (tgQ (gQ V s)) ((40 : Nat) : Int) ((22 : Nat) : Int) M3 := by
        rw [cls0, pay_some cw3.1.1.2.1 ⟨u1, u2, u3⟩ t5, u2, ck_e (cw3.1.1.2.1.2.2.1 t u1).1.1]
      have m3 : ∀ {q : Nat}, q < nN M → mo M3 q = mo M q := fun hq => exa_mo fM hq
      have l22 : 22 < nN M ∧ 23 < nN M := ⟨hu.lt (by rw [hq.1.1]; decide), hu.lt (by rw [hq.1.2.2]; decide)⟩
      obtain ⟨k1, k2, k3, k4, k5, k6, ⟨kp1, kp2, kp3, kp4, kp5, kp6⟩, kb8, kb9⟩ := id t2.1.1
      have je := j_ans (Y0 := setW Y (seeY m N own sd tm (yw Y) p key ad)) (ev0 := ev) (oth0 := oth) (Z0 := Z) (kx := 40) (s := s) (l := l) (key := key) hN hal u1 a3.2.2.1 j4 j6 (fun q hq => a3.2.2.2.2.2.2 q hq) a3.2.1.2.2.1 (CTR_w hCT (Nat.le_refl K) (Nat.le_refl _) (Nat.le_refl _)) (by omega) (hnS t (by omega)) (show sumN (fup ev p (ev p + 1)) N + (oth + 1) + 3 * K ≤ _ by omega) (show Z1 + 2 * K ≤ _ by omega) ⟨by omega, by omega⟩ cw3 r7 (fun t' ht' hne => r8 t' ht' (by rw [cq]; exact fun e => hne (by injection e with e; exact e.symm))) r9 x1 x2 (PkC_fk fM hu hq (by rw [h22.1]; rfl) (by rw [h22.2]; rfl)) ?_ hb hwl ?_ (tg_st x4) kp4 ?_ ?_ ⟨by rw [m3 l22.1]; exact h22.1, by rw [m3 l22.2]; exact h22.2⟩ s40 ?_
      · obtain ⟨M4, V4, Y4, h4, lf4, b4, eg4, mn4, sto4, fa4, tn4, d1, d2, d3, d4, d5, d6, d7, d8⟩ := je
        exact ⟨M4, V4, Y4, cls1.trans d1, ref1.trans d2, ⟨h4, lf4, b4, eg4, mn4, sto4, fa4, Z1, _, _, tn4, d3, d4⟩, (fM.mono FD_5).trans (d5.mono FD_11), kV.trans (Kp1_kp d6), YR.trans (YR.refl (Y := Y)) d7, d8 (EQ p (yw Y)) (by rw [← x3]; exact EQ_cl) (EQ.trans (EQ_see (w := yw Y)) EQ_Q)⟩
      · refine ⟨?_, hI.2.1, fun i hi => ?_⟩
        · rw [vI_ne (by omega), a7.vI (see_no (by omega))]; exact hI.1
        · rw [vI_ne (by omega), a7.vI (see_no (by omega))]; exact hI.2.2 i hi
      · show l.getD 0 0 = tyS (setW Y (seeY m N own sd tm (yw Y) p key ad)) t + 1
        rw [← x4, w3]; omega
      · rw [kb8.2.2.2.1]; decide
      · rw [t4, ← hc]
        have l43 : 43 < nN M1 := C1.2.2.2.2.1.1.lt (by rw [C1.1.1.2.2.2.2.2.2.1.2.2.2.2.1.2.2]; decide)
        have m43 : mo M1 43 = 7 := (BdS_mo C1.1.1).2.2.2.2.2.2.2.2.1.2
        refine ky_eq.mpr ?_
        have e : ∀ i, kC M2 42 i = kC M 42 i := fun i => by
          show rI M2 43 i = rI M 43 i
          rw [r5.rI l43 (by rw [m43]; rfl)]
          show w32 _ = w32 _
          rw [(a6 43 (Or.inr (Or.inr (Or.inr rfl)))).1 i]
        exact ⟨e 0, e 1, e 2, e 3, e 4⟩
      · rw [gk_st2 (by decide), show gk V1 200 (5 * s) = qKey (gQ V1 s) from rfl, ge]; exact w4
  · have e1 := hcs.2 (fun y hy => by have := s3 y hy; rw [hv] at this; exact this)
    obtain ⟨t1, t2, t3, t4⟩ := j_tally (j := 1) hJ hN hp (by decide)
    refine ⟨_, _, _, ?_, ?_, ⟨h, lf, b0, eg, mn, sto, fa, Z, ev, oth, tn, t3, CTR_w hCT (by omega) (by omega) (by omega)⟩, t4.mono (fun z hz => by rw [beq_iff_eq.mp hz]; rfl), ?_, .refl, fun _ _ h => h⟩
    · rw [e1]
      unfold j_X17_takeAnswer_69
      exact t1 some
    · unfold tkV
      rw [s2, Option.bind_some, if_pos (by decide)]
      exact t2 some
    · exact Kp1_fr (FrV_st (S := fun z => z == 5) rfl) rfl rfl
end JTAKE2
