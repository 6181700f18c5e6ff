/-! a publishing starts: the class -/
/-- words of a work that opens, with its record -/
def opG (t : Nat) (kind : Int) (p : Nat) (r : Int) (sc : VV) : VV := st2 (st2 (st2 (st2 sc 226 t 1) 227 t kind) 228 t (p : Int)) 229 t r
def opZ (t : Nat) (kind : Int) (p : Nat) (r : Int) (Y : Ys) : Ys := (dtW t (yw Y), yl Y, opG t kind p r (ys Y), yq Y)
/-- words of a publishing that opens -/
def opP (t p : Nat) (r : Int) (lim : Nat) (Y : Ys) : Ys := setV (setV (setV (opZ t 2 p r Y) 243 t (lim : Int)) 244 t (-1)) 246 t 0
section CST2
variable {S : Nat → Bool} {M M1 : MM} {V W sc : VV} {m al N p t t' nb oth Z L k K kx n P lim : Nat} {pa tk : Nat → Nat} {own : Nat → Ky} {sd ps sn pu rf : Nat → Int} {tm kind r x3 : Int} {lf : Nat → Nat} {b b0 B : Nat × Nat} {h h' : Gh} {eg : EG} {pb as : Nat → Option Nat} {mn sto : Nat → Int} {fa : Nat → Nat} {Y Yo Y1 : Ys} {Lb : Nat → List Trm} {LA : Nat → List Nat} {dn : Nat → Int} {ev tn nS : Nat → Nat}
theorem opG_ne {a i : Nat} (hz : ¬ ((a = 226 ∨ a = 227 ∨ a = 228 ∨ a = 229) ∧ i = t)) : vI (opG t kind p r sc) a i = vI sc a i := by
  unfold opG
  rw [vI_ne (by omega), vI_ne (by omega), vI_ne (by omega), vI_ne (by omega)]
theorem opG_eq (hk : 0 ≤ kind ∧ kind ≤ 5) (hp : p < 32) (hr : -1 ≤ r ∧ r < 256) : vI (opG t kind p r sc) 226 t = 1 ∧ vI (opG t kind p r sc) 227 t = kind ∧ vI (opG t kind p r sc) 228 t = (p : Int) ∧ vI (opG t kind p r sc) 229 t = r := by
  unfold opG
  refine ⟨?_, ?_, ?_, ?_⟩
  · rw [vI_ne (by omega), vI_ne (by omega), vI_ne (by omega), vI_eq rfl]; rfl
  · rw [vI_ne (by omega), vI_ne (by omega), vI_eq rfl, w32_id (by omega) (by omega)]
  · rw [vI_ne (by omega), vI_eq rfl, w32_nn (by omega)]
  · rw [vI_eq rfl, w32_id (by omega) (by omega)]
theorem opP_ne {a i : Nat} (hz : ¬ ((a = 226 ∨ a = 227 ∨ a = 228 ∨ a = 229 ∨ a = 243 ∨ a = 244 ∨ a = 246) ∧ i = t)) : yv (opP t p r lim Y) a i = yv Y a i := by
  show vI (st2 (st2 (st2 (opG t 2 p r (ys Y)) 243 t _) 244 t (-1)) 246 t 0) a i = _
  rw [vI_ne (by omega), vI_ne (by omega), vI_ne (by omega), opG_ne (by omega)]
theorem opP_eq (hp : p < 32) (hr : -1 ≤ r ∧ r < 256) (hl : lim ≤ 16) : yv (opP t p r lim Y) 226 t = 1 ∧ yv (opP t p r lim Y) 227 t = 2 ∧ yv (opP t p r lim Y) 228 t = (p : Int) ∧ yv (opP t p r lim Y) 229 t = r ∧ yv (opP t p r lim Y) 243 t = (lim : Int) ∧ yv (opP t p r lim Y) 244 t = -1 ∧ yv (opP t p r lim Y) 246 t = 0 := by
  obtain ⟨a1, a2, a3, a4⟩ := opG_eq (t := t) (sc := ys Y) (kind := 2) (by decide) hp hr
  have e : ∀ a, a = 226 ∨ a = 227 ∨ a = 228 ∨ a = 229 → yv (opP t p r lim Y) a t = vI (opG t 2 p r (ys Y)) a t := fun a ha => by
    show vI (st2 (st2 (st2 (opG t 2 p r (ys Y)) 243 t _) 244 t (-1)) 246 t 0) a t = _
    rw [vI_ne (by omega), vI_ne (by omega), vI_ne (by omega)]
  refine ⟨by rw [e 226 (by omega)]; exact a1, by rw [e 227 (by omega)]; exact a2, by rw [e 228 (by omega)]; exact a3, by rw [e 229 (by omega)]; exact a4, ?_, ?_, ?_⟩
  · show vI (st2 (st2 (st2 (opG t 2 p r (ys Y)) 243 t _) 244 t (-1)) 246 t 0) 243 t = _
    rw [vI_ne (by omega), vI_ne (by omega), vI_eq rfl, w32_nn (by omega)]
  · show vI (st2 (st2 (st2 (opG t 2 p r (ys Y)) 243 t _) 244 t (-1)) 246 t 0) 244 t = _
    rw [vI_ne (by omega), vI_eq rfl]; rfl
  · show vI (st2 (st2 (st2 (opG t 2 p r (ys Y)) 243 t _) 244 t (-1)) 246 t 0) 246 t = _
    rw [vI_eq rfl]; rfl
theorem c_start2 (hW : CW M m al N pa own sd ps sn pu rf tm lf b0 eg tk pb as nb mn fa Lb LA dn sto Y h) (h3 : ∀ t, t < 12 + N → yv Y 226 t ≠ 0 → yv Y 227 t = 3 → yv Y 247 t ≤ 3) (ho : okW N own tm (yw Y)) (ht : t < 12 + N) (hp : p < N) (hN : N ≤ 32) (hpb : pb t = some P) (hdn : dn p = (lim : Int)) (hl : lim ≤ 16) (hs : sn p ≤ tm) (hlf : lf t + 2 < 2147483648) (hr : -1 ≤ r ∧ r < 256) (hx3 : x3 = if r < 0 then -1 else ((tk r.toNat : Nat) : Int)) (hrec : recY nb (opP t p r lim Y)) (hh : hdW N (opP t p r lim Y) t) (hmr : 0 ≤ r → yv Y 269 r.toNat = 0) :
    ∃ M' lf' eg' x, f_X11_start ((wa pa t : Nat) : Int) ((pa p : Nat) : Int) (P : Int) x3 M = j_X11_start_38 ((wa pa t : Nat) : Int) x M' ∧ CW M' m al N pa own sd ps sn (fup pu p tm) rf tm lf' b0 eg' tk pb as nb mn fa Lb LA dn (fup sto t 0) (nxtY m own Lb t (opP t p r lim Y)) h ∧ FK F11 M M' ∧ LfS t 2 lf lf' ∧ x = b2i (decide (yv (nxtY m own Lb t (opP t p r lim Y)) 226 t ≠ 0)) := by
  obtain ⟨⟨hC, hPub, hLb, hrc0, hmn, hst⟩, hA⟩ := hW
  obtain ⟨hP, hL, hWk, hTk⟩ := id hC
  obtain ⟨hu, u1, u2, u3⟩ := id hL
  obtain ⟨w1, w2, w3, w4, w5⟩ := u2 t ht
  obtain ⟨a, ha⟩ : ∃ a, a = wa pa t := ⟨_, rfl⟩
  obtain ⟨o1, o2, o3, o4, o5, o6, o7⟩ := opP_eq (t := t) (p := p) (r := r) (lim := lim) (Y := Y) (by omega) hr hl
  obtain ⟨Yo, hYo⟩ : ∃ Yo, Yo = opP t p r lim Y := ⟨_, rfl⟩
  rw [← hYo] at hrec hh o1 o2 o3 o4 o5 o6 o7 ⊢
  have yne : ∀ {a i : Nat}, ¬ ((a = 226 ∨ a = 227 ∨ a = 228 ∨ a = 229 ∨ a = 243 ∨ a = 244 ∨ a = 246) ∧ i = t) → yv Yo a i = yv Y a i := fun hz => by rw [hYo]; exact opP_ne hz
  have hyp : yp Yo t = p := by unfold yp; show (yv Yo 228 t).toNat = p; omega
  rw [← ha] at w1 w5 ⊢
  have PS := (hPub.1 t ht P hpb).1
  obtain ⟨M5, hM5⟩ : ∃ M5, M5 = opM M a (pa p) (P : Int) x3 (lf t) := ⟨_, rfl⟩
  have A0 : A12 a a := Or.inl rfl
  have x5 : ExC (A12 a) M M5 := by
    rw [hM5]
    unfold opM
    exact ((((ExC_sR A0).trans (ExC_sR A0)).trans (ExC_sR A0)).trans (ExC_sI A0)).trans (ExC_sI A0)
  obtain ⟨⟨f2, f3, f4, f6, f5⟩, fr, fo, fk⟩ := opM_f (M := M) (a := a) (q := pa p) (x2 := (P : Int)) (x3 := x3) (l := lf t) (by omega)
  rw [← hM5] at f2 f3 f4 f6 f5 fr fo fk
  obtain ⟨k1, k2, k3, k4⟩ := hWk t ht
  rw [← ha] at k1 k2
  have eYo : ((dtW t (yw Y), yl Y, ys Yo, yq Y) : Ys) = Yo := by rw [hYo]; rfl
  have hop := CB_op (sc := ys Yo) hC ht (M1 := M5) (by rw [← ha]; exact x5.exa) ⟨x5.nN, x5.nU⟩ (fun i hi => by rw [← ha]; exact fr i (by omega) (by omega) (by omega)) (by rw [← ha]; exact f5) (fun t' hne b hb => yne (by omega)) (fun r _ b hb => yne (by omega)) (by
    unfold Wk12
    rw [← ha, fr 10 (by decide) (by decide) (by decide), fr 11 (by decide) (by decide) (by decide), show vI (ys Yo) 226 t = 1 from o1, f6, f2, f3, f4, show vI (ys Yo) 228 t = (p : Int) from o3, show vI (ys Yo) 229 t = r from o4, show vI (ys Yo) 227 t = 2 from o2]
    exact ⟨k1, k2, rfl, fun _ => ⟨by rw [Int.toNat_natCast], hx3, fun z => absurd z (by decide), fun z => absurd z (by decide), fun _ => ⟨by rw [hpb]; rfl, by rw [hpb]; exact fun z => by cases z⟩, fun z => absurd z (by decide)⟩⟩)
  rw [eYo] at hop
  obtain ⟨C5, g5⟩ := hop
  have hu5 := g5.un hu
  have Pub5 := Pubs_fk g5 hu (by decide) hPub
  have PS5 := (Pub5.1 t ht P hpb).1
  have Lb5 := Libs_fk g5 hu (by decide) hLb
  -- the terms
  obtain ⟨M7, hM7⟩ : ∃ M7, M7 = sI (sI M5 P 3 (lim : Int)) P 1 0 := ⟨_, rfl⟩
  have x7 : Ex (fun z => z = P) M5 M7 := by rw [hM7]; exact Ex.trans (M1 := sI M5 P 3 (lim : Int)) (Ex.st (A := fun z => z = P) rfl) (Ex.st (A := fun z => z = P) rfl)
  have PS7 : PbS M7 P := ⟨by rw [x7.kd]; exact PS5.1, by rw [x7.rR]; exact PS5.2.1, by rw [x7.kd]; exact PS5.2.2⟩
  have f7 : FK (fun z => z == 13) M5 M7 := FK_ex x7 (fun z _ hz => by rw [hz, (PbS_mo PS5).1]; rfl)
  have Lb7 := Libs_fk f7 hu5 (by decide) Lb5
  obtain ⟨M8, l1, l2, l3, l4, l5⟩ := c_fill PS7 (Lb7 p hp) (f7.un hu5) (by rw [hM7, rI_eq rfl]; rfl) (by rw [hM7, rI_ne (by omega), rI_eq rfl, w32_nn (by omega)]) hl ((a : Nat) : Int)
  obtain ⟨M12, hM12⟩ : ∃ M12, M12 = sI (sI (sI (sI M8 P 2 0) P 4 0) P 5 0) P 6 0 := ⟨_, rfl⟩
  have x12 : Ex (fun z => z = P) M8 M12 := by rw [hM12]; exact Ex.trans (M1 := sI (sI (sI M8 P 2 0) P 4 0) P 5 0) (Ex.trans (M1 := sI (sI M8 P 2 0) P 4 0) (Ex.trans (M1 := sI M8 P 2 0) (Ex.st (A := fun z => z = P) rfl) (Ex.st (A := fun z => z = P) rfl)) (Ex.st (A := fun z => z = P) rfl)) (Ex.st (A := fun z => z = P) rfl)
  have xP : ExC (fun z => z = P ∨ z = P + 1) M5 M12 := (((ExC_ex x7).mono (fun z hz => Or.inl hz)).trans l5).trans ((ExC_ex x12).mono (fun z hz => Or.inl hz))
  have f12 : FK (fun z => z == 13) M5 M12 := FK_exc xP (fun z _ hz => by
    rcases hz with e | e
    · rw [e, (PbS_mo PS5).1]; rfl
    · rw [e, (PbS_mo PS5).2]; rfl)
  have P12 : PbS M12 P := ⟨by rw [xP.kd]; exact PS5.1, by rw [x12.rR]; exact l2.2.1, by rw [xP.kd]; exact PS5.2.2⟩
  have i12 : ∀ i, i ≠ 2 → i ≠ 4 → i ≠ 5 → i ≠ 6 → rI M12 P i = rI M8 P i := fun i z1 z2 z3 z4 => by rw [hM12, rI_ne (by omega), rI_ne (by omega), rI_ne (by omega), rI_ne (by omega)]
  have q2 : rI M12 P 2 = 0 := by rw [hM12, rI_ne (by omega), rI_ne (by omega), rI_ne (by omega), rI_eq rfl]; rfl
  have q4 : rI M12 P 4 = 0 := by rw [hM12, rI_ne (by omega), rI_ne (by omega), rI_eq rfl]; rfl
  have q5 : rI M12 P 5 = 0 := by rw [hM12, rI_ne (by omega), rI_eq rfl]; rfl
  have q6 : rI M12 P 6 = 0 := by rw [hM12, rI_eq rfl]; rfl
  have hP12 := cp_11 C5.1 f12 (by decide) ⟨xP.nN, xP.nU⟩
  have C12 : CB M12 m al N pa own sd ps sn pu rf tm (fup lf t (lf t + 1)) b0 eg tk pb as nb mn fa Yo h := ⟨hP12, LksC_fk f12 (by decide) C5.2.1, Wks_fk C5.2.1 f12 (by decide) C5.2.2.1, Tks_fk hu5 f12 (by decide) C5.2.2.2⟩
  have hu12 := f12.un hu5
  -- the time
  obtain ⟨hP13, f13⟩ := cp_pu hP12 hp hs
  obtain ⟨M13, hM13⟩ : ∃ M13, M13 = sI M12 (pa p) 17 tm := ⟨_, rfl⟩
  rw [← hM13] at hP13 f13
  have C13 : CB M13 m al N pa own sd ps sn (fup pu p tm) rf tm (fup lf t (lf t + 1)) b0 eg tk pb as nb mn fa Yo h := ⟨hP13, LksC_fk f13 (by decide) C12.2.1, Wks_fk C12.2.1 f13 (by decide) C12.2.2.1, Tks_fk hu12 f13 (by decide) C12.2.2.2⟩
  have hu13 := f13.un hu12
  have lP : P < nN M12 := hu12.lt (by rw [P12.1]; decide)
  have lP1 := PbS_lt hu12 P12
  have i13 : ∀ i, rI M13 P i = rI M12 P i := f13.rI lP (by rw [(PbS_mo P12).1]; rfl)
  have r13 : ∀ i, rR M13 (P + 1) i = rR M12 (P + 1) i := f13.rR lP1 (by rw [(PbS_mo P12).2]; rfl)
  have Pub13 : PubsC M13 (12 + N) pb Lb LA (fup sto t 0) (st2 (ys Yo) 226 t 0) := Pubs_fk f13 hu12 (by decide) (Pubs_w (sc' := st2 (ys Yo) 226 t 0) (sto' := fup sto t 0) hu5 ht hpb Pub5 xP.exa (fun t' hne b hb => by rw [vI_ne (by omega)]; exact yne (by omega)) (fun t' hne => fup_ne hne) P12 (fun z => by rw [vI_eq rfl] at z; exact absurd rfl z))
  have Lb13 := Libs_fk f13 hu12 (by decide) (Libs_fk f12 hu5 (by decide) Lb5)
  have T13 : PbT M13 P (pbL (yv Yo 243 t).toNat (Lb (yp Yo t)) (LA (yp Yo t))) := by
    rw [o5, hyp, Int.toNat_natCast]
    obtain ⟨b1, b2, b3⟩ := l3
    refine ⟨by rw [i13, i12 1 (by decide) (by decide) (by decide) (by decide)]; exact b1, b2, fun i hi => ?_⟩
    rw [r13, x12.rR]; exact b3 i hi
  have ewo : yw Yo = dtW t (yw Y) := by rw [← eYo]
  obtain ⟨M', lf', eg', x, r1, ⟨r2, r3, r4⟩, r5, r6, r7⟩ := c_goes30 (sto := fup sto t 0) C13 Pub13 Lb13 (by rw [ewo]; exact ok_dt ho) hrec hh ht (by rw [fup_eq]; omega) o2 hpb T13 (by omega) (by rw [i13, q2, o6]; rfl) (by rw [i13, i12 3 (by decide) (by decide) (by decide) (by decide), l4, o5]) (by rw [i13, q4]) (by rw [i13, q5, fup_eq]) (by rw [i13, q6, o7]) (Or.inl o7) (by rw [ewo]; exact dtW_dtW)
  rw [← ha] at r1
  have emn : mnU (yv Yo 229 t) (fup sto t 0 t) mn = mn := by
    unfold mnU
    rw [o4, fup_eq]
    by_cases c : r < 0
    · rw [if_pos c]
    · rw [if_neg c]
      funext z
      by_cases e : z = r.toNat
      · have t12 : t < 12 := by
          by_cases q : t < 12
          · exact q
          · have := (hh.2.2.2 (by omega)).1; omega
        have rb := (hrec.2 t t12 (by rw [o1]; decide)).1
        rw [o4] at rb
        rw [e, fup_eq, hmn r.toNat (by omega), hmr (by omega)]
      · rw [fup_ne e]
  rw [emn] at r2
  have fall : FT t Yo (nxtY m own Lb t Yo) := FT_nxt
  have ggo : yv Yo 226 t ≠ 0 := by rw [o1]; decide
  have fM' : FK F11 M M13 := ((g5.mono (fun z hz => by rw [beq_iff_eq.mp hz]; rfl)).trans (f12.mono (fun z hz => by rw [beq_iff_eq.mp hz]; rfl))).trans (f13.mono (fun z hz => by rw [beq_iff_eq.mp hz]; rfl))
  have fM : FK F11 M M' := fM'.trans (r5.mono (fun z hz => by unfold FJ at hz; unfold F11; simp only [Bool.or_eq_true, beq_iff_eq] at hz ⊢; omega))
  have h3o : ∀ t', t' < 12 + N → yv Yo 226 t' ≠ 0 → yv Yo 227 t' = 3 → yv Yo 247 t' ≤ 3 := fun t' ht' z1 z2 => by
    by_cases c : t' = t
    · rw [c, o2] at z2; exact absurd z2 (by decide)
    · rw [yne (by omega)] at z1 z2 ⊢
      exact h3 t' ht' z1 z2
  have Ask' : AsksC M' (12 + N) as (ys Yo) (yq Yo) := by
    have A1 := Asks_fk r5 hu13 (by decide) h3 (Asks_fk f13 hu12 (by decide) h3 (Asks_fk f12 hu5 (by decide) h3 (Asks_fk g5 hu (by decide) h3 hA)))
    have := Asks_o (t := t) (sc' := ys Yo) A1 (fun t' hne a ha => yne (by omega)) (fun a i ha => yne (by omega)) (fun _ => by rw [show vI (ys Yo) 227 t = 2 from o2]; decide) h3
    rw [show yq Yo = yq Y by rw [← eYo]]; exact this
  refine ⟨M', lf', eg', x, ?_, ⟨⟨r2, r3, r4, rec_ft hrec fall (fun _ => ggo), fun z hz => by rw [nxt_269, yne (by omega)]; exact hmn z hz, fun t' h' z1 z2 => ?_⟩, Asks_ft Ask' fall (fun _ => by rw [o2]; decide) h3o⟩, fM, ⟨fun z hz => by rw [r6.1 z hz, fup_ne hz], by have := r6.2.1; rw [fup_eq] at this; omega, by have := r6.2.2; rw [fup_eq] at this; omega⟩, r7⟩
  · -- the code
    have s0 := c_start0 (M := M) (pa := pa) (t := t) (p := p) (lf := lf) (kx := P) (x3 := x3) (by rw [← ha]; exact w1.1) (by rw [← ha]; exact w5)
    have kP : (kd M5 P).1 = 30 := by rw [PS5.1]
    rw [← ha, ← hM5, ckE_f (by rw [kP]; decide), ckE_f (by rw [kP]; decide), ckE_t kP] at s0
    rw [s0]
    have pe5 := (C5.1.2.2.2.2.1.2.2 p hp).1
    have k5 : (kd M5 a).1 = 11 := by rw [x5.kd]; exact w1.1
    have k11 : (kd M12 a).1 = 11 := by rw [xP.kd]; exact k5
    have na : ¬ (a = P ∨ a = P + 1) := fun e => by
      rcases e with e | e
      · rw [e, PS5.1] at k5; exact absurd k5 (by decide)
      · rw [e, PS5.2.2] at k5; exact absurd k5 (by decide)
    have w12 := (C12.2.1.2.2.1 t ht).1
    rw [← ha] at w12
    have lib5 := Lb5 p hp
    have beg : f_X30_begin (P : Int) ((a : Nat) : Int) M5 = some (x, M') := by
      unfold f_X30_begin
      rw [gfr_e k5, Option.bind_some, f2, gfr_e (by rw [pe5.1]), Option.bind_some, pe5.2.2.1.2.2.2.2.1, gfi_e lib5.1, Option.bind_some, lib5.2.2.2.2.1, hdn, pfi_e kP, Option.bind_some, pfi_e (by rw [kd_sI]; exact kP), Option.bind_some, ← hM7, l1]
      unfold j_X30_begin_81
      have k8 : (kd M8 P).1 = 30 := by rw [l2.1]
      rw [pfi_e k8, Option.bind_some, pfi_e (by exact k8), Option.bind_some, pfi_e (by exact k8), Option.bind_some, pfz_e (by exact k8) (Or.inl rfl), Option.bind_some, ← hM12, gfr_e k11, Option.bind_some, show rR M12 a 2 = ((pa p : Nat) : Int) by rw [xP.rR na]; exact f2, gfr_e k11, Option.bind_some, w12.2.1.1, gfr_e (by rw [hP12.1.1.1]), Option.bind_some, hP12.1.1.2.2.1.1, gfi_e (by rw [hP12.2.1.1.1]), Option.bind_some, hP12.2.1.2.2.1, pfi_e (by rw [(hP12.2.2.2.2.1.2.2 p hp).1.1]), Option.bind_some, ← hM13, ck_e (by rw [f13.kd lP, P12.1]), r1, Option.bind_some]
      rw [bz_e (show x = 0 ∨ x = 1 by rw [r7]; cases decide (yv (nxtY m own Lb t Yo) 226 t ≠ 0) <;> decide)]
    rw [beg]; rfl
  · by_cases c : t' = t
    · rw [c, fup_eq, nxt_269, fall.2.2.2.1.2.2, o4, yne (by omega)]
      have t12 : t < 12 := by omega
      have rb := (hrec.2 t t12 ggo).1
      rw [o4] at rb
      exact (hmr rb.1).symm
    · have g : ∀ b, 226 ≤ b → b ≤ 229 → yv (nxtY m own Lb t Yo) b t' = yv Y b t' := fun b y1 y2 => (fall.2.2.1 b t' (by unfold wrT; omega)).trans (yne (by omega))
      rw [g 226 (by omega) (by omega)] at z1
      rw [g 227 (by omega) (by omega)] at z2
      rw [fup_ne c, g 229 (by omega) (by omega), nxt_269, yne (by omega)]
      exact hst t' h' z1 z2
end CST2
