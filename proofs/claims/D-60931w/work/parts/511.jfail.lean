/-! a request has failed, both sides -/
section JFAIL
variable {S : Nat → Bool} {M M1 : MM} {V V' V2 W : VV} {m al N p t t' nb oth Z L k kx n s K q i r0 : Nat} {pa tk : Nat → Nat} {own : Nat → Ky} {sd ps sn pu rf : Nat → Int} {tm ad x1 : Int} {lf : Nat → Nat} {b0 B : Nat × Nat} {h h' : Gh} {eg : EG} {pb as : Nat → Option Nat} {mn sto : Nat → Int} {fa : Nat → Nat} {Y Y0 Y1 Ya Y' : Ys} {Lb : Nat → List Trm} {LA : Nat → List Nat} {dn : Nat → Int} {ev tn nS : Nat → Nat} {w w' : Wd} {KL : List Ky} {key : Ky} {l : List Int} {r : Option MM} {y x : Rq} {R : List Rq} {lk0 : Nat → LkA} {v1 v2 : Int}
theorem kp0_m {a i : Nat} (h : kp0 a i) : mv a i = 4 ∨ mv a i = 8 ∨ mv a i = 9 := by
  by_cases c : a = 274
  · rw [c]; exact Or.inr (Or.inr rfl)
  · have : kp1 a i := by unfold kp0 at h; unfold kp1; omega
    have := kp1_m this
    omega
/-- one is lost, whatever the works are like -/
theorem j_lose0 {e n : Nat} (c1 : CW M m al N pa own sd ps sn pu rf tm lf b0 eg tk pb as nb mn fa Lb LA dn sto (setW Y0 w) h) (h3 : ∀ t, t < 12 + N → yv Y0 226 t ≠ 0 → yv Y0 227 t = 3 → yv Y0 247 t ≤ 3) (c2 : VY V m al N own sd ps sn pu rf tm Lb oth Z ev tn (setW Y0 w)) (hPI : PI KL tm (wT w) k w) (h6 : KL.length ≤ 96) (hT : ∀ q, q < N → okTK KL (wT w q)) (hp : p < N) (hk : isK M kx) (hc : ky (kC M kx) = key) (hv : gk V e q = key) (he : mA e n) (hq : q + 5 ≤ n) (hn : n ≤ 1000000) (ha : 0 ≤ ad ∧ ad < 32) (hZ : Z < 2147483647) :
    ∃ M' V' h' Z', f_X20_lose ((pa p + 10 : Nat) : Int) (kx : Int) ad M = some M' ∧ f_X16_lose (p : Int) (e : Int) (q : Int) ad V = some V' ∧ CW M' m al N pa own sd ps sn pu rf tm lf b0 eg tk pb as nb mn fa Lb LA dn sto (setW Y0 (loseY own w p key ad)) h' ∧ VY V' m al N own sd ps sn pu rf tm Lb oth Z' ev tn (setW Y0 (loseY own w p key ad)) ∧ PI KL tm (wT (loseY own w p key ad)) k (loseY own w p key ad) ∧ (∀ q, q < N → okTK KL (wT (loseY own w p key ad) q)) ∧ Z' ≤ Z + 1 ∧ FK (fun z => z == 2) M M' ∧ FrV m2 V V' := by
  have hC := c1.1.1.1
  obtain ⟨L, hP, hL⟩ := c2.1
  have tl := tk_lose (own := own p) (key := key) (ad := ad) (hT p hp)
  have o : OKw N own tm KL k ev w (loseY own w p key ad) := OKw_T c2.2.1 c2.2.2.1 hPI h6 hT tl
  obtain ⟨M', h', a1, a2, a3⟩ := cp_lose (kx := kx) hC c2.2.1 (by rw [hc]; exact o.1) hp hk ha
  obtain ⟨V', Z', b1, b2, b3, b4, b5⟩ := vp_lose hP hp ha hZ he hq hn
  rw [hc] at a2
  rw [hv] at b2
  have f := a3 (fun z => z == 2) rfl
  have g : FrV G5 V V' := FrV.mono b5 (fun z hz => by unfold m2 at hz; rw [beq_iff_eq.mp hz]; rfl)
  exact ⟨M', V', h', Z', a1, b1, CW_w (Y := setW Y0 w) c1 h3 a2 f (by decide), vy_w (Y := setW Y0 w) c2 g b2 hL o.1 o.2.1, o.2.2.1, o.2.2.2.1, b4, f, b5⟩
/-- whether the class's work is told -/
theorem pay2_none (hL : LksC M m (12 + N) pa lk0 lf eg) (hw : v1 = -1 ∨ ∃ t, t < 12 + N ∧ v1 = ((wa pa t : Nat) : Int) ∧ v2 < (lf t : Int)) (h2 : w32 v2 = v2) {X : Option MM} : (if v1 = -1 then some M else (gfi 11 5 v1 M).bind fun v10 => if w32 v10 = w32 v2 then X else some M) = some M := by
  rcases hw with z | ⟨t, t1, t2, t3⟩
  · rw [if_pos z]
  · rw [t2, if_neg (by omega), gfi_e (hL.2.2.1 t t1).1.1, Option.bind_some, (hL.2.2.1 t t1).2.2.2.2, if_neg]
    intro e
    rw [show w32 ((lf t : Nat) : Int) = (lf t : Int) by rw [← (hL.2.2.1 t t1).2.2.2.2]; exact w32_rI, h2] at e
    omega
theorem pay2_some (hL : LksC M m (12 + N) pa lk0 lf eg) (t1 : t < 12 + N) (t2 : v1 = ((wa pa t : Nat) : Int)) (t3 : v2 = (lf t : Int)) {X : Option MM} : (if v1 = -1 then some M else (gfi 11 5 v1 M).bind fun v10 => if w32 v10 = w32 v2 then X else some M) = X := by
  rw [t2, if_neg (by omega), gfi_e (hL.2.2.1 t t1).1.1, Option.bind_some, (hL.2.2.1 t t1).2.2.2.2, t3, if_pos rfl]
/-- the tail of `runOut` in the reference -/
theorem v_tail2 {x1 x2 x3 : Int} (hs : s < 1280) (h4 : vI V 204 s < 44) :
    ((l2 204 1280 (s : Int) V).bind fun v7 => if w32 v7 < 0 then j_X16_runOut_285 x1 x2 x3 V else if w32 v7 < 0 then j_X16_runOut_247 x1 x2 x3 (s : Int) v7 0 V else j_X16_runOut_247 x1 x2 x3 (s : Int) v7 v7 V) = (if 0 ≤ vI V 204 s ∧ vI V 226 (vI V 204 s).toNat ≠ 0 ∧ vI V 205 s = vI V 231 (vI V 204 s).toNat then f_X16_failed (((vI V 204 s).toNat : Nat) : Int) (s : Int) V else some V).bind fun V' => cnt (x3 + 1, V') := by
  rw [l2_n hs (by decide), Option.bind_some, w32_vI]
  by_cases c : vI V 204 s < 0
  · rw [if_pos c, if_neg (by omega)]; rfl
  rw [if_neg c, if_neg c]
  obtain ⟨t, ht⟩ : ∃ t : Nat, vI V 204 s = (t : Int) := ⟨(vI V 204 s).toNat, by omega⟩
  have t44 : t < 44 := by omega
  rw [ht, show ((t : Nat) : Int).toNat = t from Int.toNat_natCast t]
  unfold j_X16_runOut_247
  rw [l2_n t44 (by decide), Option.bind_some, w32_vI]
  by_cases c2 : vI V 226 t = 0
  · rw [if_pos c2, if_neg (fun z => z.2.1 c2)]; rfl
  rw [if_neg c2, l2_n hs (by decide), Option.bind_some, w32_nn (by omega), if_neg (by omega)]
  unfold j_X16_runOut_273
  rw [l2_n t44 (by decide), Option.bind_some, w32_vI, w32_vI]
  by_cases c3 : vI V 205 s = vI V 231 t
  · rw [if_pos c3, if_pos ⟨by omega, c2, c3⟩]
    rfl
  · rw [if_neg c3, if_neg (fun z => c3 z.2.2)]; rfl
/-- a request of the reference fails -/
def rtV (p s : Nat) (x2 x3 : Int) (V : VV) : Option ((Int × VV) ⊕ VV) :=
  (s2z 197 1280 (s : Int) 0 V).bind fun V1 => (l2 199 1280 (s : Int) V1).bind fun v6 => (f_X16_lose (p : Int) 200 (5 * (s : Int)) v6 V1).bind fun V2 => (l2 204 1280 (s : Int) V2).bind fun v7 => if w32 v7 < 0 then j_X16_runOut_285 (p : Int) x2 x3 V2 else if w32 v7 < 0 then j_X16_runOut_247 (p : Int) x2 x3 (s : Int) v7 0 V2 else j_X16_runOut_247 (p : Int) x2 x3 (s : Int) v7 v7 V2
theorem j_fail (hJ : JX M V m al N pa own sd ps sn pu rf tm tk pb as nb Lb LA dn KL k h lf b0 eg mn sto fa Z ev oth tn Y) (hCT : CTR N own nb K nS B lf b0 Z ev oth tn Y) (hN : 12 + N ≤ 44) (hal : al ≤ 8) (hK : K < 130000000) (hnS : ∀ t, t < 44 → nS t ≤ 70000) (hp : p < N) (hi : i < (wQ (yw Y) p).length) (hy : y = (wQ (yw Y) p).getD i q0) (hs : s ∈ slQ V p) (hsy : gQ V s = y) :
    ∃ M' V' Y', f_X17_fail ((pa p : Nat) : Int) (i : Int) M = some M' ∧ (∀ x2 x3, rtV p s x2 x3 V = cnt (x3 + 1, V')) ∧ JD M' V' m al N pa own sd ps sn pu rf tm tk pb as nb Lb LA dn KL k (K + 1) nS B Y' ∧ FK FD M M' ∧ ((∀ a j, kp0 a j → V' a j = V a j) ∧ SK (st2 V 197 s 0) V') ∧ YR Y Y' ∧ ∀ P : Wd → Prop, (∀ t, ClP P N own sd tm p t) → P (loseY own (rmW (yw Y) p i) p (qKey y) (qAdr y)) → P (yw Y') := by
  obtain ⟨j1, j2, j3, j4, j5, j6, j7⟩ := id hJ
  have hB : bdg N ev oth := CTR_bdg hCT (by omega) (by omega)
  have hZ : Z ≤ 2 * K := hCT.2.2.1
  have hS : sumN ev N + oth ≤ 3 * K := hCT.2.1
  have p32 : p < 32 := by omega
  have s40 : s < 1280 := by
    have := (List.mem_filter.mp hs).1
    obtain ⟨i, hi, e⟩ := rws_mem.mp this
    omega
  obtain ⟨L0, hP0, hL0⟩ := j2.1
  have hRq := hP0.2.2.2.2.1 p p32
  have oky : okQ y := by rw [hy]; exact ((j2.2.1.2.2.2 p hp).2.2.2.2.2 _ (getD_mem hi)).2
  obtain ⟨M2, h2, r0, Bx, r1, r2, r3, r4, r5, r6, r7, r8, r9, r10⟩ := j_rm hJ hN hp hi hy hs hsy
  -- the key is kept
  have hC2 := r6.1.1.1
  have hu2 := hC2.2.2.2.2.1.1
  obtain ⟨g1, g2, ⟨g3, g4, g5, g6, g7, g8, g9, g10, g11, g12, g13, g14⟩, _, _, _, ⟨p1, p2, p3, p4, p5, p6⟩, b8, b9⟩ := id hC2.1.1
  obtain ⟨M3, a1, a2, a3⟩ := e_X3_set p4 r3.2.2.2.1
  have mob := BdS_mo hC2.1.1
  obtain ⟨c1, c2⟩ := cp_board hC2 a3 (by decide) (fun z _ hz => by rw [hz]; exact mob.2.2.2.2.2.2.2.1.2)
  have f3 := c2 (fun z => z == 7) rfl
  have h3Y : ∀ t, t < 12 + N → yv Y 226 t ≠ 0 → yv Y 227 t = 3 → yv Y 247 t ≤ 3 := wE_h3 hN j3
  have cw3 : CW M3 m al N pa own sd ps sn pu rf tm lf b0 eg tk pb as nb mn fa Lb LA dn sto (setW Y (rmW (yw Y) p i)) h2 := CW_w (Y := setW Y (rmW (yw Y) p i)) r6 h3Y c1 f3 (by decide)
  have kr : (kd M2 r0).1 = 24 := by rw [r3.1]
  have lr : r0 < nN M2 := hu2.lt (by rw [kr]; decide)
  have mr : mo M2 r0 = 5 := mo_cl r3.1 (by decide) (by decide)
  have lr1 : r0 + 1 < nN M2 := hu2.lt (by rw [r3.2.2.1]; decide)
  have lr2 : r0 + 2 < nN M2 := hu2.lt (by rw [show r0 + 2 = r0 + 1 + 1 from rfl, r3.2.2.2.1.2.2]; decide)
  have mr1 : mo M2 (r0 + 1) = 5 := mo_cl r3.2.2.1 (by decide) (by decide)
  have mr2 : mo M2 (r0 + 2) = 5 := mo_kw (q := r0 + 1) r3.2.2.2.1.2.2 (Or.inl rfl) r3.2.2.1 (by decide) (by decide)
  have isk3 : isK M3 (r0 + 1) := isK_fk f3 hu2 r3.2.2.2.1 (by rw [mr1]; rfl)
  have kc3 : ky (kC M3 (r0 + 1)) = qKey y := by
    rw [← r4.2.2.2.2.2.2.1]
    have e : ∀ i, kC M3 (r0 + 1) i = kC M2 (r0 + 1) i := f3.rI lr2 (by rw [mr2]; rfl)
    exact ky_eq.mpr ⟨e 0, e 1, e 2, e 3, e 4⟩
  have k40 : ky (kC M3 40) = qKey y := by
    rw [← r4.2.2.2.2.2.2.1]
    exact ky_eq.mpr ⟨a2 0 (by decide), a2 1 (by decide), a2 2 (by decide), a2 3 (by decide), a2 4 (by decide)⟩
  have gv : gk (st2 V 197 s 0) 200 (5 * s) = qKey y := by rw [gk_st2 (by decide), ← hsy]; rfl
  -- it is lost
  obtain ⟨M4, V4, h4, Z4, d1, d2, d3, d4, d5, d6, d7, d8, d9⟩ := j_lose0 (e := 200) (n := 6400) (q := 5 * s) (kx := r0 + 1) (ad := qAdr y) cw3 h3Y r7 r9 j6 (fun q hq => (j7 q hq).2) hp isk3 kc3 gv ⟨by decide, by decide, by decide, by decide, by decide⟩ (by omega) (by decide) oky.1 (by omega)
  have d2 : f_X16_lose (p : Int) 200 (5 * (s : Int)) (qAdr y) (st2 V 197 s 0) = some V4 := by rw [← d2]; congr 1
  have C4 := d3.1.1.1
  have pe2 := (hC2.2.2.2.2.1.2.2 p hp).1
  have pe3 := (c1.2.2.2.2.1.2.2 p hp).1
  have pe4 := (C4.2.2.2.2.1.2.2 p hp).1
  have kr3 : (kd M3 r0).1 = 24 := by rw [f3.kd lr]; exact kr
  have k17 : (kd M (pa p)).1 = 17 := by rw [(j1.1.1.1.2.2.2.2.1.2.2 p hp).1.1]
  have ri3 : ∀ j, rI M3 r0 j = rI M2 r0 j := f3.rI lr (by rw [mr]; rfl)
  have rr3 : ∀ j, rR M3 r0 j = rR M2 r0 j := f3.rR lr (by rw [mr]; rfl)
  have clsE : f_X17_fail ((pa p : Nat) : Int) (i : Int) M = (if rR M2 r0 9 = -1 then some M4 else (gfi 11 5 (rR M2 r0 9) M4).bind fun v10 => if w32 v10 = w32 (rI M2 r0 5) then ck 11 (rR M2 r0 9) M4 (f_X11_failed (rR M2 r0 9) (tgQ y) ((40 : Nat) : Int) M4) else some M4) := by
    unfold f_X17_fail
    rw [ck_e k17, r1, Option.bind_some]
    show (gfr 24 9 (r0 : Int) M2).bind _ = _
    rw [gfr_e kr, Option.bind_some, gfi_e kr, Option.bind_some, gfi_e kr, Option.bind_some, gfr_e (by rw [pe2.1]), Option.bind_some, pe2.2.2.1.1, gfr_e (by rw [g1]), Option.bind_some, g11, gfr_e kr, Option.bind_some, r3.2.1, ck_e p4.1, a1, Option.bind_some, gfr_e (by rw [pe3.1]), Option.bind_some, pe3.2.2.1.2.2.1, gfr_e kr3, Option.bind_some, rr3 7, r3.2.1, gfi_e kr3, Option.bind_some, ri3 1, r4.2.1, ck_e (c1.2.2.1.2.2.2.2.2 p hp).2.1.2.1.1, d1, Option.bind_some]
    rw [show ((gfr 17 0 ((pa p : Nat) : Int) M4).bind fun v11 => (gfr 6 11 v11 M4).bind fun v12 => ck 11 (rR M2 r0 9) M4 ((f_X11_failed (rR M2 r0 9) (rI M2 r0 6) v12 M4).bind fun M3 => j_X17_fail_78 M3)) = ck 11 (rR M2 r0 9) M4 (f_X11_failed (rR M2 r0 9) (tgQ y) ((40 : Nat) : Int) M4) by
      rw [gfr_e (by rw [pe4.1]), Option.bind_some, pe4.2.2.1.1, gfr_e (by rw [C4.1.1.1]), Option.bind_some, C4.1.1.2.2.1.2.2.2.2.2.2.2.2.1, r4.2.2.2.2.2.1]
      congr 1
      cases f_X11_failed (rR M2 r0 9) (tgQ y) ((40 : Nat) : Int) M4 <;> rfl]
    rfl
  have vw : ∀ a x, a ≠ 197 → mv a x ≠ 2 → vI V4 a x = vI V a x := fun a x z1 z2 => by
    rw [fv d9 (by unfold m2; exact beq_false_of_ne z2), vI_ne (fun e => z1 e.1)]
  have m5 : mv 204 s ≠ 2 ∧ mv 205 s ≠ 2 := ⟨by rw [show mv 204 s = 5 from rfl]; decide, by rw [show mv 205 s = 5 from rfl]; decide⟩
  have m6 : ∀ x, mv 231 x ≠ 2 := fun x => by rw [show mv 231 x = 6 from rfl]; decide
  have s4 : vI V4 204 s < 44 := by rw [vw 204 s (by decide) m5.1]; exact (hRq.2.2.2.2 s hs).2.1
  have refE : ∀ x2 x3, rtV p s x2 x3 V = (if 0 ≤ vI V 204 s ∧ vI V4 226 (vI V 204 s).toNat ≠ 0 ∧ vI V 205 s = vI V 231 (vI V 204 s).toNat then f_X16_failed (((vI V 204 s).toNat : Nat) : Int) (s : Int) V4 else some V4).bind fun V' => cnt (x3 + 1, V') := fun x2 x3 => by
    unfold rtV
    rw [r2, Option.bind_some, l2_n s40 (by decide), Option.bind_some, vI_ne (by omega), show vI V 199 s = qAdr y by rw [← hsy]; rfl, d2, Option.bind_some, v_tail2 s40 s4, vw 204 s (by decide) m5.1, vw 205 s (by decide) m5.2, vw 231 _ (by decide) (m6 _)]
  have gw := gQ_wk (V := V) (s := s)
  rw [hsy] at gw
  have sf := sumN_fup (f := ev) (v := ev p + 1) N hp
  have fM : FK FD M M4 := ((r5.mono (fun z hz => by unfold FD; simp only [Bool.or_eq_true, beq_iff_eq] at hz ⊢; omega)).trans (f3.mono (fun z hz => by rw [beq_iff_eq.mp hz]; rfl))).trans (d8.mono (fun z hz => by rw [beq_iff_eq.mp hz]; rfl))
  have kV0 : ∀ a j, kp0 a j → V4 a j = V a j := fun a j z => by
    rw [d9 a j (by unfold m2; exact beq_false_of_ne (by have := kp0_m z; omega)), st2_ne (by unfold kp0 at z; omega)]
  have kS : SK (st2 V 197 s 0) V4 := fun r _ => ⟨fv d9 (by rw [show mv 197 r = 5 from rfl]; rfl), fv d9 (by rw [show mv 198 r = 5 from rfl]; rfl)⟩
  have hw := r4.2.2.2.2.2.2.2.2.1
  cases cq : qWrk y with
  | none =>
    rw [cq] at hw gw
    refine ⟨M4, V4, setW Y (loseY own (rmW (yw Y) p i) p (qKey y) (qAdr y)), ?_, ?_, ⟨h4, lf, b0, eg, mn, sto, fa, Z4, fup ev p (ev p + 1), oth, tn, ⟨d3, d4, fun t ht => wE_w (Y := setW Y (rmW (yw Y) p i)) (r8 t ht (by rw [cq]; exact fun e => by cases e)) (fun q => rfl), j4, d5, j6, fun q hq => ⟨(j7 q hq).1, d6 q hq⟩⟩, CTR_w hCT (by omega) (by omega) (by omega)⟩, fM, ⟨kV0, kS⟩, .refl, fun P _ h => h⟩
    · rw [clsE]; exact pay2_none d3.1.1.2.1 hw w32_rI
    · intro x2 x3
      rw [refE, if_neg]
      · rfl
      · intro z
        rw [if_pos ⟨z.1, z.2.2⟩] at gw
        cases gw
  | some t =>
    rw [cq] at hw gw
    obtain ⟨u1, u2, u3⟩ := hw
    obtain ⟨x1, x2, x3, x4⟩ := r10 t (by omega) cq
    have g4 : 0 ≤ vI V 204 s ∧ vI V 205 s = vI V 231 (vI V 204 s).toNat := by
      by_cases z : 0 ≤ vI V 204 s ∧ vI V 205 s = vI V 231 (vI V 204 s).toNat
      · exact z
      · rw [if_neg z] at gw; cases gw
    rw [if_pos g4] at gw
    have gt : t = (vI V 204 s).toNat := by injection gw
    have ref1 : ∀ x2 x3, rtV p s x2 x3 V = (f_X16_failed (t : Int) (s : Int) V4).bind fun V' => cnt (x3 + 1, V') := fun x2 x3 => by
      rw [refE, ← gt, if_pos]
      refine ⟨g4.1, ?_, ?_⟩
      · rw [d4.2.2.2.2.1 226 t (by unfold scA; omega)]
        show yv Y 226 t ≠ 0
        omega
      · rw [gt]; exact g4.2
    have cls1 : f_X17_fail ((pa p : Nat) : Int) (i : Int) M = f_X11_failed ((wa pa t : Nat) : Int) (tgQ y) ((40 : Nat) : Int) M4 := by
      rw [clsE, pay2_some d3.1.1.2.1 u1 u2 u3, u2, ck_e (d3.1.1.2.1.2.2.1 t u1).1.1]
    have k40' : ky (kC M4 40) = qKey y := by
      rw [← k40]
      have hu3 := c1.2.2.2.2.1.1
      have l41 : 41 < nN M3 := hu3.lt (by rw [c1.1.1.2.2.2.2.2.2.1.2.2.2.1.2.2]; decide)
      have m41 : mo M3 41 = 7 := (BdS_mo c1.1.1).2.2.2.2.2.2.2.1.2
      have e : ∀ i, kC M4 40 i = kC M3 40 i := d8.rI l41 (by rw [m41]; rfl)
      exact ky_eq.mpr ⟨e 0, e 1, e 2, e 3, e 4⟩
    have je := j_fai (Y0 := setW Y (loseY own (yw Y) p (qKey y) (qAdr y))) (w := rmW (loseY own (yw Y) p (qKey y) (qAdr y)) p i) (ev0 := ev) (oth0 := oth) (Z0 := Z) (kx := 40) (s := s) (key := qKey y) (x1 := tgQ y) hN hal u1 (fun t ht => wE_w (j3 t ht) (fun q => rfl)) j4 j6 (fun q hq => ⟨(j7 q hq).1, d6 q hq⟩) j2.2.2.1 (CTR_w hCT (Nat.le_refl K) (Nat.le_refl _) (Nat.le_refl _)) (by omega) (hnS t (by omega)) (show sumN (fup ev p (ev p + 1)) N + oth + 3 * K ≤ _ by omega) (show Z4 + 2 * K ≤ _ by omega) ⟨by omega, by omega⟩ d3 d4 (fun t' ht' hne => wE_w (Y := setW Y (rmW (yw Y) p i)) (r8 t' ht' (by rw [cq]; exact fun e => hne (by injection e with e; exact e.symm))) (fun q => rfl)) d5 x1 x2 (tg_st x4) C4.1.1.2.2.2.2.2.2.1.2.2.2.1 k40' s40 (by rw [← hsy]; exact gk_ext (fun i _ => vw 200 _ (by decide) (by rw [show mv 200 (5 * s + i) = 5 from rfl]; decide)))
    obtain ⟨M5, V5, Y5, h5, lf5, b5, eg5, mn5, sto5, fa5, tn5, e1, e2, e3, e4, e5, e6, e7, e8⟩ := je
    refine ⟨M5, V5, Y5, cls1.trans e1, fun x2 x3 => by rw [ref1, e2]; rfl, ⟨h5, lf5, b5, eg5, mn5, sto5, fa5, Z4, _, _, tn5, e3, e4⟩, fM.trans (e5.mono FD_11), ⟨fun a j z => (e6.1 a j z).trans (kV0 a j z), kS.trans e6.2⟩, YR.trans (YR.refl (Y := Y)) e7, fun P hc hP => e8 P ?_ hP⟩
    have : p = yp Y t := x3
    rw [show yp (setW Y (loseY own (yw Y) p (qKey y) (qAdr y))) t = yp Y t from rfl, ← this]
    exact hc t
end JFAIL
