/-! the class's lookups go on -/
theorem mo1 {S : Nat → Bool} {a : Nat} (h : S a = true) : ∀ z, (z == a) = true → S z = true := fun z hz => by rw [beq_iff_eq.mp hz]; exact h
theorem mo2 {S : Nat → Bool} {a b : Nat} (h : S a = true ∧ S b = true) : ∀ z, (z == a || z == b) = true → S z = true := fun z hz => by
  rcases Bool.or_eq_true_iff.mp hz with e | e <;> rw [beq_iff_eq.mp e]
  · exact h.1
  · exact h.2
theorem mo3 {S : Nat → Bool} {a b c : Nat} (h : S a = true ∧ S b = true ∧ S c = true) : ∀ z, (z == a || z == b || z == c) = true → S z = true := fun z hz => by
  rcases Bool.or_eq_true_iff.mp hz with e | e
  · exact mo2 ⟨h.1, h.2.1⟩ z e
  · rw [beq_iff_eq.mp e]; exact h.2.2
theorem lu_s4 {M : MM} {u m A : Nat} {tgt : Ky} {E : List Ent} {D : Nat → Nat} {v : Int} (hL : LuC M u m tgt E A D) : LuC (sI M u 4 v) u m tgt E A D := by
  obtain ⟨l1, l2, l3, l4, l5, l6, l7, l8, l9, l10⟩ := hL
  have nk : ∀ z, z ≠ u → ∀ i, rI (sI M u 4 v) z i = rI M z i := fun z hz i => rI_ne (by omega)
  refine ⟨⟨l1.1, l1.2.1, l1.2.2.1, l1.2.2.2.1, l1.2.2.2.2.1, l1.2.2.2.2.2.1, by rw [rI_ne (by omega)]; exact l1.2.2.2.2.2.2⟩, ?_, by rw [rI_ne (by omega)]; exact l3, l4, l5, l6, l7, l8, l9, fun i hi => ?_⟩
  · have : kC (sI M u 4 v) (u + 2) = kC M (u + 2) := by funext i; exact nk (u + 2 + 1) (by omega) i
    rw [this]; exact l2
  · have hen := (l6 i (by omega)).2
    have e1 : ∀ z, D i ≤ z → z ≤ D i + 2 → z ≠ u := fun z z1 z2 e => en_lu hen l1 (show u ≤ z ∧ z ≤ u + 3 by omega) (by omega)
    rw [← l10 i hi]
    unfold enC
    have k1 : kC (sI M u 4 v) (D i + 1) = kC M (D i + 1) := by funext i'; exact nk _ (e1 _ (by omega) (by omega)) i'
    rw [k1, nk _ (e1 _ (by omega) (by omega)), nk _ (e1 _ (by omega) (by omega)), nk _ (e1 _ (by omega) (by omega))]
section CNEXT
variable {S : Nat → Bool} {M M1 : MM} {m al N p t nb kx : Nat} {pa tk : Nat → Nat} {own : Nat → Ky} {sd ps sn pu rf : Nat → Int} {tm how ad ty : Int} {lf : Nat → Nat} {b0 : Nat × Nat} {h : Gh} {eg : EG} {pb as : Nat → Option Nat} {mn mn' : Nat → Int} {fa fa' : Nat → Nat} {Y Y1 : Ys} {bd : List Int} {sk : Bool} {w : Wd} {lk : Nat → LkA} {sc : VV} {q : Qs} {s : LSt} {x : Ent}
theorem ps_l : yl (putS Y t s) t = ((yl Y t).1, (yl Y t).2.1, s.2.1, s.2.2.1) := fup_eq
theorem ps_p : yp (putS Y t s) t = yp Y t := by unfold yp; rw [show vI (ys (putS Y t s)) 228 t = vI (ys Y) 228 t from ps_v (by decide)]
/-- words of the records as a lookup counts them -/
theorem ra_ps {rc : Int} (hr : rc = yv Y 229 t) (hs : ∀ i, w32 (s.2.2.2 i) = s.2.2.2 i) (a i : Nat) : vI (raS t (ys (putS Y t s))) a i = vI (setRow (ys Y) 268 (raU rc s.2.2.2)) a i := by
  have e9 : vI (ys (putS Y t s)) 229 t = yv Y 229 t := ps_v (by decide)
  have e8 : ∀ i, vI (ys (putS Y t s)) 268 i = s.2.2.2 i := fun i => by
    show w32 (if 268 = 268 then s.2.2.2 i else ys Y 268 i) = _
    rw [if_pos rfl, hs]
  by_cases c : a = 268
  · rw [c]
    show _ = w32 (if 268 = 268 then raU rc s.2.2.2 i else ys Y 268 i)
    rw [if_pos rfl]
    unfold raS raU
    rw [e9, ← hr]
    by_cases d : 0 ≤ rc
    · rw [if_pos d, if_pos d, e8]
      unfold fup
      by_cases e : i = rc.toNat
      · rw [e, vI_eq rfl, if_pos rfl, w32_w32]
      · rw [vI_ne (fun z => e z.2), e8, if_neg e, hs]
    · rw [if_neg d, if_neg d, e8, hs]
  · rw [raS_ne c]
    show vI (ys (putS Y t s)) a i = w32 (if a = 268 then _ else ys Y a i)
    rw [if_neg c]
    exact ps_v c
theorem ra_ok {rc : Int} {ra : Nat → Int} (hs : ∀ i, w32 (ra i) = ra i) : ∀ i, w32 (raU rc ra i) = raU rc ra i := fun i => by
  unfold raU
  by_cases d : 0 ≤ rc
  · rw [if_pos d]
    unfold fup
    by_cases e : i = rc.toNat
    · rw [if_pos e, w32_w32]
    · rw [if_neg e, hs]
  · rw [if_neg d, hs]
/-- the next one is asked -/
theorem c_askNext (hC : CB M m al N pa own sd ps sn pu rf tm lf b0 eg tk pb as nb mn fa (putS Y t s) h) (ho : okW N own tm s.1) (hE : okEs (yl Y t).1 s.2.1) (hm : 1 ≤ m ∧ m ≤ 20) (ht : t < 12 + N) (hgo : yv Y 226 t ≠ 0) (hp : yp Y t < N) (hrc : yv Y 229 t = -1 ∨ (0 ≤ yv Y 229 t ∧ yv Y 229 t < (nb : Int))) (hs : ∀ i, w32 (s.2.2.2 i) = s.2.2.2 i) :
    (nextE (frontE m s.2.1) = none ∧ f_X11_askNext ((wa pa t : Nat) : Int) M = some (0, M)) ∨ ∃ x M' h', nextE (frontE m s.2.1) = some x ∧ f_X11_askNext ((wa pa t : Nat) : Int) M = some (1, M') ∧ CB M' m al N pa own sd ps sn pu rf tm lf b0 eg tk pb as nb mn fa (putS Y t (askN N own sd tm (yp Y t) t (yv Y 229 t) (yl Y t).1 (yl Y t).2.1 s x)) h' ∧ FK (fun z => z == 1 || z == 5 || z == 6 || z == 7 || z == 11) M M' := by
  obtain ⟨hP, hL, hW, hT⟩ := id hC
  obtain ⟨hu, u1, u2, u3⟩ := id hL
  obtain ⟨w1, w2, w3, w4, w5⟩ := u2 t ht
  have hgo' : yv (putS Y t s) 226 t ≠ 0 := by rw [ps_v (by decide)]; exact hgo
  obtain ⟨g1, g2, g3⟩ := (hW t ht).2.2.2 hgo'
  rw [ps_l] at w2 w3 w4
  have hlt := WlS_lt hu w1
  obtain ⟨a, ha⟩ : ∃ a, a = wa pa t := ⟨_, rfl⟩
  obtain ⟨p, hpp⟩ : ∃ p, p = yp Y t := ⟨_, rfl⟩
  have g1 : rR M (wa pa t) 2 = ((pa p : Nat) : Int) := by
    have : (vI (ys (putS Y t s)) 228 t).toNat = p := by rw [hpp]; exact ps_p
    rw [this] at g1; exact g1
  rw [← hpp] at hp ⊢
  rw [← ha] at w1 w2 w3 w4 g1 hlt ⊢
  have l15 : rR M a 1 = ((a + 5 : Nat) : Int) := w1.2.1.2.1
  have k15 : (kd M (a + 5)).1 = 15 := by rw [w2.1.1]
  obtain ⟨vals, hvals⟩ : ∃ vals, vals = (yl Y t).2.1 := ⟨_, rfl⟩
  obtain ⟨tgt, htgt⟩ : ∃ tgt, tgt = (yl Y t).1 := ⟨_, rfl⟩
  rw [← htgt] at w2 hE ⊢
  rw [← hvals] at w4 ⊢
  have w2 : LuC M (a + 5) m tgt s.2.1 (eg t).1 (eg t).2 := w2
  have w3 : rI M (a + 5) 4 = s.2.2.1 := w3
  have w4 : rI M (a + 5) 5 = b2i vals := w4
  unfold f_X11_askNext
  rw [gfr_e w1.1, l15, Option.bind_some, ck_e k15]
  rcases c_next w2 hm with ⟨j, j1, j2, j3⟩ | ⟨j2, j3⟩
  · right
    obtain ⟨x, hx⟩ : ∃ x, x = s.2.1.getD j ent0 := ⟨_, rfl⟩
    rw [← hx] at j3
    obtain ⟨d, hd⟩ : ∃ d, d = (eg t).2 j := ⟨_, rfl⟩
    obtain ⟨l1, l2, l3, l4, l5, l6, l7, l8, l9, l10⟩ := id w2
    have hen := (l6 j (by omega)).2
    have hxe := l10 j j1
    rw [← hd] at j2 hen hxe
    rw [← hx] at hxe
    have okx : okE x := l9.2.2 x (by rw [hx]; exact getD_mem j1)
    have k27 : (kd M d).1 = 27 := by rw [hen.1]
    have dl := isEn_lt hu hen
    obtain ⟨d1, d2, d3⟩ := En_mo hen
    obtain ⟨o1, o2, o3, o4⟩ := Lu_mo w2.1
    -- the head of the request
    have tyv : (if w32 (b2i vals) = 0 then j_X11_askNext_33 (a : Int) (d : Int) ((pa p : Nat) : Int) 3 M else j_X11_askNext_33 (a : Int) (d : Int) ((pa p : Nat) : Int) 5 M) = j_X11_askNext_33 (a : Int) (d : Int) ((pa p : Nat) : Int) (tyL vals) M := by
      cases vals <;> rfl
    rw [j2, Option.bind_some, if_neg (by omega), gfr_e w1.1, g1, Option.bind_some, Option.bind_some, gfi_e k15, w4, Option.bind_some, tyv]
    have ty0 : 0 ≤ tyL vals ∧ tyL vals < 256 := by cases vals <;> decide
    have fl0 : (0 : Int) = if tyL vals = 1 ∨ tyL vals = 3 ∨ tyL vals = 5 then 0 else 1 := by cases vals <;> rfl
    obtain ⟨M1, b1, b2, b3, b4⟩ := cp_begin (ty := tyL vals) hP hp
    have k17 : (kd M (pa p)).1 = 17 := by rw [(hP.2.2.2.2.1.2.2 p hp).1.1]
    have kc2 : isK M1 (a + 5 + 2) := l1.2.2.2.2.2.1.ex b4
    have m31 : mo M 31 = 7 := mo_cl (BdS_31 hP.1.1) (by decide) (by decide)
    have m32 : mo M 32 = 7 := mo_kw (q := 31) hP.1.1.2.2.2.2.2.2.1.1.2.2 (Or.inr (Or.inl rfl)) (BdS_31 hP.1.1) (by decide) (by decide)
    obtain ⟨M2, c1, c2, c3⟩ := e_X4_putKey b3 kc2 (by rw [hdB_len]; omega)
    have b4' : Ex (fun q => q = 31 ∨ q = 32) M1 M2 := c3
    have ex2 : Ex (fun q => q = 31 ∨ q = 32) M M2 := b4.trans b4'
    have nz : ∀ z, mo M z ≠ 7 → ¬ (z = 31 ∨ z = 32) := fun z hz e => by
      rcases e with e | e
      · rw [e, m31] at hz; exact hz rfl
      · rw [e, m32] at hz; exact hz rfl
    have kcw : kC M1 (a + 5 + 2) = kC M (a + 5 + 2) := by funext i; exact b4.rI (nz _ (by rw [show a + 5 + 2 + 1 = a + 5 + 3 from rfl, o4]; decide)) i
    rw [kcw, kby_ky, l2] at c2
    have P2 := cp_board hP ex2 (by omega) (fun z _ hz => by rcases hz with e | e <;> rw [e]; exact m31; exact m32)
    have f2 : FK (fun z => z == 7) M M2 := P2.2 _ rfl
    have C2 : CB M2 m al N pa own sd ps sn pu rf tm lf b0 eg tk pb as nb mn fa (putS Y t s) h := ⟨P2.1, LksC_fk f2 (by decide) hL, Wks_fk hL f2 (by decide) hW, Tks_fk hu f2 (by decide) hT⟩
    have kx2 : isK M2 (d + 1) := hen.2.2.2.ex ex2
    have kc3 : kC M2 (d + 1) = kC M (d + 1) := by funext i; exact ex2.rI (nz _ (by rw [show d + 1 + 1 = d + 2 from rfl, d3]; decide)) i
    have ekey : ky (kC M2 (d + 1)) = eKey x := by rw [kc3, ← hxe]; rfl
    have eadr : rI M2 d 1 = eAdr x := by rw [ex2.rI (nz _ (by rw [d1]; decide)), ← hxe]; rfl
    have md1 : mo M2 (d + 1) = 6 ∧ mo M2 (d + 1 + 1) = 6 := ⟨by rw [exa_mo f2 (by omega)]; exact d2, by rw [exa_mo f2 (by omega)]; exact d3⟩
    obtain ⟨M3, h3, e1, e2, e3⟩ := c_askW (x4 := 0) (ad := eAdr x) (ty := tyL vals) (bd := kbs tgt) (kx := d + 1) C2 ho ht hgo' (by rw [ps_p, ← hpp]; exact hp) (by rw [ps_v (by decide)]; exact hrc) kx2 ⟨⟨by rw [md1.1]; decide, by rw [md1.2]; decide⟩, by rw [md1.1]; decide, by rw [md1.2]; decide⟩ (by rw [ps_p, ← hpp]; exact c2) ty0 okx.2.1 fl0
    rw [ps_p, ← hpp, ekey] at e1 e2
    rw [← ha] at e1
    have e1 : f_X11_ask_2 (a : Int) ((d + 1 : Nat) : Int) (eAdr x) 0 M2 = some (b2i (askY N own sd tm s.1 p (eAdr x) (tyL vals) (eKey x) (kbs tgt) (some t) none).2, M3) := e1
    obtain ⟨ok, hok⟩ : ∃ ok, ok = (askY N own sd tm s.1 p (eAdr x) (tyL vals) (eKey x) (kbs tgt) (some t) none).2 := ⟨_, rfl⟩
    obtain ⟨w', hw'⟩ : ∃ w', w' = (askY N own sd tm s.1 p (eAdr x) (tyL vals) (eKey x) (kbs tgt) (some t) none).1 := ⟨_, rfl⟩
    have e2 : CB M3 m al N pa own sd ps sn pu rf tm lf b0 eg tk pb as nb mn fa (w', yl (putS Y t s), raS t (ys (putS Y t s)), yq Y) h3 := by rw [hw']; exact e2
    rw [← hok] at e1
    -- its entry and the lookup
    obtain ⟨v1, v2, v3, v4, v5⟩ := e2.2.1.2.2.1 t ht
    have v2 : LuC M3 (wa pa t + 5) m (yl (putS Y t s) t).1 (yl (putS Y t s) t).2.2.1 (eg t).1 (eg t).2 := v2
    have v3 : rI M3 (wa pa t + 5) 4 = (yl (putS Y t s) t).2.2.2 := v3
    have v4 : rI M3 (wa pa t + 5) 5 = b2i (yl (putS Y t s) t).2.1 := v4
    rw [ps_l] at v2 v3 v4
    rw [← ha, ← htgt] at v2
    rw [← ha] at v1 v3 v4
    have v2 : LuC M3 (a + 5) m tgt s.2.1 (eg t).1 (eg t).2 := v2
    have v3 : rI M3 (a + 5) 4 = s.2.2.1 := v3
    have v4 : rI M3 (a + 5) 5 = b2i (yl Y t).2.1 := v4
    obtain ⟨sv, hsv⟩ : ∃ sv : Int, sv = if ok = true then 1 else 3 := ⟨_, rfl⟩
    have hsr : 0 ≤ sv ∧ sv ≤ 3 := by rw [hsv]; cases ok <;> decide
    have n5 := c_lset1 (s := sv) v2 j1 hsr
    rw [← hx, ← hd] at n5
    have e27 : (kd M3 d).1 = 27 := by rw [hd, (v2.2.2.2.2.2.1 j (by omega)).2.1]
    obtain ⟨av, hav⟩ : ∃ av : Int, av = if ok = true then s.2.2.1 + 1 else s.2.2.1 := ⟨_, rfl⟩
    obtain ⟨M5, hM5⟩ : ∃ M5, M5 = sI (sI M3 d 2 sv) (a + 5) 4 av := ⟨_, rfl⟩
    have hu3 := e2.2.1.1
    have hen3 : isEn M3 d := by rw [hd]; exact (v2.2.2.2.2.2.1 j (by omega)).2
    have ned : ∀ z, (a + 5 ≤ z ∧ z ≤ a + 5 + 3) → z ≠ d := fun z hz e => en_lu (e := d) hen3 v2.1 hz (by omega)
    have w3s : w32 s.2.2.1 = s.2.2.1 := by rw [← w3]; exact w32_rI
    have x5 : ExA (AL3 (a + 5) (eg t).1 (eg t).2) M3 M5 := by
      rw [hM5]
      refine ((ExC_sI (A := AL3 (a + 5) (eg t).1 (eg t).2) ?_).trans (ExC_sI (A := AL3 (a + 5) (eg t).1 (eg t).2) ?_)).exa
      · exact Or.inl (Or.inr (Or.inr ⟨j, by omega, Or.inl hd⟩))
      · exact Or.inl (Or.inl rfl)
    have lu5 : LuC M5 (a + 5) m tgt (stE (eKey x) sv (eCnt x) s.2.1) (eg t).1 (eg t).2 := by
      rw [hM5]; exact lu_s4 n5
    have L5 := lks_step (k' := (tgt, (yl Y t).2.1, stE (eKey x) sv (eCnt x) s.2.1, w32 av)) e2.2.1 ht (by rw [← ha]; exact x5) (by rw [← ha]; exact lu5) (by rw [← ha, hM5, rI_eq rfl]) (by rw [← ha, hM5, rI_ne (by omega), rI_ne (by have := ned (a + 5) (by omega); omega)]; exact v4) DW.refl
    rw [show fup eg t ((eg t).1, (eg t).2) = eg from fup_self] at L5
    have f5 : FK (fun z => z == 6) M3 M5 := FK_exa x5 (fun z _ hz => by rw [al3_mo v2 hz]; rfl)
    have C5 := CB_w (S := fun z => z == 6) e2 (cp_b (cp_w6 (d1 := 0) (d2 := 0) e2.1 f5 (by decide) (BoC_fk f5 hu3 (by decide) e2.1.1) (by rw [hM5]; exact Nat.le_refl _) (by rw [hM5]; exact Nat.le_refl _)) (Nat.le_refl _) (Nat.le_refl _)) L5 f5 (by decide)
    have C6 := CB_sc (sc := setRow (ys Y) 268 (raU (yv Y 229 t) s.2.2.2)) (q := yq Y) C5 (fun a i _ => (ra_ps rfl hs a i).symm) rfl
    refine ⟨x, M5, h3, j3, ?_, ?_, ?_⟩
    · unfold j_X11_askNext_33
      have b1 : f_X17_begin ((pa p : Nat) : Int) (tyL vals) M = some (((31 : Nat) : Int), M1) := b1
      have k11 : (kd M1 a).1 = 11 := by rw [b4.kd]; exact w1.1
      have k151 : (kd M1 (a + 5)).1 = 15 := by rw [b4.kd]; exact k15
      have k4 : (kd M1 31).1 = 4 := by rw [b4.kd, BdS_31 hP.1.1]
      rw [ck_e k17, b1, Option.bind_some, gfr_e k11, b4.rR, l15, Option.bind_some, gfr_e k151, b4.rR, l1.2.2.2.1, Option.bind_some, ck_e k4]
      have c1 : f_X4_putKey ((31 : Nat) : Int) ((a + 5 + 2 : Nat) : Int) M1 = some M2 := c1
      rw [c1, Option.bind_some, gfr_e (by rw [ex2.kd]; exact k27), ex2.rR, hen.2.1, Option.bind_some, gfi_e (by rw [ex2.kd]; exact k27), eadr, Option.bind_some, ck_e (by rw [ex2.kd]; exact w1.1), e1, Option.bind_some]
      have k113 : (kd (sI M3 d 2 sv) a).1 = 11 := by rw [kd_sI]; exact v1.1
      have tail : j_X11_askNext_72 (a : Int) (b2i ok) (d : Int) sv M3 = some (1, M5) := by
        unfold j_X11_askNext_72 j_X11_askNext_92
        rw [pfi_e e27, Option.bind_some, gfr_e k113, rR_sI, v1.2.1.2.1, Option.bind_some, gfi_e (by rw [kd_sI, v2.1.1]), rI_ne (by have := ned (a + 5) (by omega); omega), v3, Option.bind_some, w32_b2i]
        cases ok with
        | true =>
          rw [if_neg (by decide), pfi_e (by rw [kd_sI, v2.1.1]), Option.bind_some, hM5, hav]
          rfl
        | false =>
          rw [if_pos (by decide), pfi_e (by rw [kd_sI, v2.1.1]), Option.bind_some, hM5, hav, Int.add_zero]
          rfl
      rw [w32_b2i]
      cases ok with
      | true => rw [if_neg (by decide)]; rw [hsv] at tail; exact tail
      | false => rw [if_pos (by decide)]; rw [hsv] at tail; exact tail
    · have eY : putS Y t (askN N own sd tm p t (yv Y 229 t) tgt vals s x) = (w', fup (yl (putS Y t s)) t (tgt, (yl Y t).2.1, stE (eKey x) sv (eCnt x) s.2.1, w32 av), setRow (ys Y) 268 (raU (yv Y 229 t) s.2.2.2), yq Y) := by
        unfold putS askN
        rw [← hok, ← hw', ← hsv]
        have e4 : (if ok = true then w32 (s.2.2.1 + 1) else s.2.2.1) = w32 av := by
          rw [hav]
          cases ok with
          | true => rfl
          | false => rw [if_neg (by decide), if_neg (by decide), w3s]
        rw [e4]
        refine Prod.ext rfl (Prod.ext ?_ rfl)
        funext z
        show fup (yl Y) t ((yl Y t).1, (yl Y t).2.1, stE (eKey x) sv (eCnt x) s.2.1, w32 av) z = fup (fup (yl Y) t ((yl Y t).1, (yl Y t).2.1, s.2.1, s.2.2.1)) t (tgt, (yl Y t).2.1, stE (eKey x) sv (eCnt x) s.2.1, w32 av) z
        unfold fup
        by_cases c : z = t
        · rw [if_pos c, if_pos c, htgt]
        · rw [if_neg c, if_neg c, if_neg c]
      rw [eY]
      exact C6
    · exact ((f2.mono (mo1 rfl)).trans (e3.mono (mo3 ⟨rfl, rfl, rfl⟩))).trans (f5.mono (mo1 rfl))
  · left
    refine ⟨j3, ?_⟩
    rw [j2, Option.bind_some, if_pos rfl]
end CNEXT
