/-! a work of the class looks and asks -/
section CLSET1
variable {M M1 : MM} {u m A : Nat} {tgt : Ky} {E : List Ent} {D : Nat → Nat}
theorem c_lset1 {j : Nat} {s : Int} (hL : LuC M u m tgt E A D) (hj : j < E.length) (hs : 0 ≤ s ∧ s ≤ 3) : LuC (sI M (D j) 2 s) u m tgt (stE (eKey (E.getD j ent0)) s (eCnt (E.getD j ent0)) E) A D := by
  obtain ⟨l1, l2, l3, l4, l5, l6, l7, l8, l9, l10⟩ := hL
  have hen := (l6 j (by omega)).2
  have ex : Ex (fun q => q = D j) M (sI M (D j) 2 s) := Ex.st (A := fun q => q = D j) rfl
  have eu : ∀ z, (u ≤ z ∧ z ≤ u + 3) → z ≠ D j := fun z hz q => en_lu hen l1 hz (by omega)
  obtain ⟨c, hc⟩ : ∃ c, c = eCnt (E.getD j ent0) := ⟨_, rfl⟩
  have okx := l9.2.2 _ (getD_mem hj (d := ent0))
  have hcr : 0 ≤ c ∧ c ≤ 65535 := by rw [hc]; exact okx.2.2.2
  rw [← hc]
  have len : (stE (eKey (E.getD j ent0)) s c E).length = E.length := by unfold stE; rw [List.length_map]
  refine ⟨⟨l1.1, l1.2.1, l1.2.2.1, l1.2.2.2.1, l1.2.2.2.2.1, l1.2.2.2.2.2.1, by rw [ex.rI (eu u (by omega))]; exact l1.2.2.2.2.2.2⟩, ?_, by rw [ex.rI (eu u (by omega)), len]; exact l3, by rw [len]; exact l4, l5, l6, l7, l8, okEs_st l9 hs hcr, fun i hi => ?_⟩
  · have : kC (sI M (D j) 2 s) (u + 2) = kC M (u + 2) := by funext i; exact ex.rI (eu (u + 2 + 1) (by omega)) i
    rw [this]; exact l2
  · rw [len] at hi
    rw [stE_set l9 hj rfl, List.getD_eq_getElem?_getD, List.getElem?_set]
    have hei := (l6 i (by omega)).2
    by_cases d : j = i
    · subst d
      rw [if_pos rfl, if_pos hj]
      have e0 := l10 j hj
      unfold enC
      have k1 : kC (sI M (D j) 2 s) (D j + 1) = kC M (D j + 1) := by funext i; exact ex.rI (by omega) i
      rw [k1, rI_ne (by omega), rI_eq rfl, rI_ne (by omega), w32_id (by omega) (by omega), hc, ← e0]
      rfl
    · rw [if_neg d, ← List.getD_eq_getElem?_getD, ← l10 i hi]
      have st : ∀ z, D i ≤ z → z ≤ D i + 2 → z ≠ D j := fun z z1 z2 q => en_apart hen hei (fun w => d (l7 j i (by omega) (by omega) w.symm)) z1 z2 (by omega)
      unfold enC
      have k1 : kC (sI M (D j) 2 s) (D i + 1) = kC M (D i + 1) := by funext i'; exact ex.rI (st _ (by omega) (by omega)) i'
      rw [k1, ex.rI (st _ (by omega) (by omega)), ex.rI (st _ (by omega) (by omega)), ex.rI (st _ (by omega) (by omega))]
end CLSET1
theorem BdS_31 {M : MM} {m : Nat} (h : BdS M m) : kd M 31 = (4, 6) := h.2.2.2.2.2.2.2.1.1
section CASKW
variable {S : Nat → Bool} {M M1 : MM} {m al N p t nb kx : Nat} {pa tk : Nat → Nat} {own : Nat → Ky} {sd ps sn pu rf : Nat → Int} {tm how ad ty : Int} {lf : Nat → Nat} {b0 : Nat × Nat} {h : Gh} {eg : EG} {pb as : Nat → Option Nat} {mn mn' : Nat → Int} {fa fa' : Nat → Nat} {Y Y1 : Ys} {bd : List Int} {sk : Bool} {w : Wd} {lk : Nat → LkA} {sc : VV} {q : Qs}
/-- words that the class does not keep so -/
theorem CB_sc (hC : CB M m al N pa own sd ps sn pu rf tm lf b0 eg tk pb as nb mn fa Y h) (hv : ∀ a i, (a = 226 ∨ a = 227 ∨ a = 228 ∨ a = 229 ∨ a = 241 ∨ a = 242 ∨ (265 ≤ a ∧ a ≤ 268)) → vI sc a i = yv Y a i) (hq : qR q = qR (yq Y)) : CB M m al N pa own sd ps sn pu rf tm lf b0 eg tk pb as nb mn fa (yw Y, yl Y, sc, q) h := by
  obtain ⟨hp, hL, hW, hT⟩ := hC
  refine ⟨hp, hL, fun t ht => Wk12_ag (hW t ht) (fun _ => rfl) (fun _ => rfl) (fun _ => rfl) (fun _ a z => hv a t (by omega)) (hv 226 t (by omega)), ?_⟩
  have T2 := Tks_sc (sc' := sc) hT (fun r _ a z => hv a r (by omega))
  refine ⟨fun r hr => ?_, T2.2⟩
  have := T2.1 r hr
  unfold TkC at this ⊢
  rw [show qR (yw Y, yl Y, sc, q).2.2.2 = qR (yq Y) from hq]
  exact this
/-- the peers' part changes -/
theorem CB_w (hC : CB M m al N pa own sd ps sn pu rf tm lf b0 eg tk pb as nb mn fa Y h) {h' : Gh} {eg' : EG} (hp : CPs M1 m al N pa own sd ps sn pu rf tm lf (eb b0 eg' (12 + N)) w h') (hL : LksC M1 m (12 + N) pa lk lf eg') (f : FK S M M1) (hs : S 11 = false ∧ S 12 = false) : CB M1 m al N pa own sd ps sn pu rf tm lf b0 eg' tk pb as nb mn fa (w, lk, ys Y, yq Y) h' :=
  ⟨hp, hL, Wks_fk hC.2.1 f hs.2 hC.2.2.1, Tks_fk hC.2.1.1 f hs.1 hC.2.2.2⟩
/-- a lookup begins -/
theorem c_lookW (hC : CB M m al N pa own sd ps sn pu rf tm lf b0 eg tk pb as nb mn fa Y h) (ho : okW N own tm (yw Y)) (ht : t < 12 + N) (hgo : yv Y 226 t ≠ 0) (hp : yp Y t < N) (hk : isK M kx) (hkx : kd M kx ≠ (3, 30) ∧ kd M kx ≠ (3, 12)) (hd : dtW t (yw Y) = yw Y) :
    ∃ M' eg', f_X11_look ((wa pa t : Nat) : Int) (kx : Int) (b2i sk) M = some (1, M') ∧ CB M' m al N pa own sd ps sn pu rf tm lf b0 eg' tk pb as nb mn fa (lkY m own t (ky (kC M kx)) sk Y) h ∧ FK (fun z => z == 6 || z == 7) M M' := by
  obtain ⟨M', eg', e1, e2, e3, e4⟩ := lc_look (sk := sk) hC.1 ho hC.2.1 ht hp ((hC.2.2.1 t ht).2.2.2 hgo).1 hk hkx
  refine ⟨M', eg', e1, ?_, e4⟩
  have c1 := CB_w hC e2 e3 e4 (by decide)
  have c2 := CB_sc (sc := st2 (ys Y) 230 t 1) (q := yq Y) c1 (fun a i z => vI_ne (by omega)) rfl
  unfold lkY
  rw [hd]
  exact c2
/-- a work asks -/
theorem c_askW {x4 : Int} (hC : CB M m al N pa own sd ps sn pu rf tm lf b0 eg tk pb as nb mn fa Y h) (ho : okW N own tm (yw Y)) (ht : t < 12 + N) (hgo : yv Y 226 t ≠ 0) (hp : yp Y t < N) (hrc : yv Y 229 t = -1 ∨ (0 ≤ yv Y 229 t ∧ yv Y 229 t < (nb : Int))) (hk : isK M kx) (hkm : (mo M kx ≠ 5 ∧ mo M (kx + 1) ≠ 5) ∧ mo M kx ≠ 11 ∧ mo M (kx + 1) ≠ 11) (hx : PkC M 31 (hdB ty 0 (kf (own (yp Y t))) ++ bd)) (hty : 0 ≤ ty ∧ ty < 256) (had : 0 ≤ ad ∧ ad < 32) (h4 : x4 = if ty = 1 ∨ ty = 3 ∨ ty = 5 then 0 else 1) :
    ∃ M' h', f_X11_ask_2 ((wa pa t : Nat) : Int) (kx : Int) ad x4 M = some (b2i (askY N own sd tm (yw Y) (yp Y t) ad ty (ky (kC M kx)) bd (some t) none).2, M') ∧ CB M' m al N pa own sd ps sn pu rf tm lf b0 eg tk pb as nb mn fa ((askY N own sd tm (yw Y) (yp Y t) ad ty (ky (kC M kx)) bd (some t) none).1, yl Y, raS t (ys Y), yq Y) h' ∧ FK (fun z => z == 1 || z == 5 || z == 11) M M' := by
  obtain ⟨hP, hL, hW, hT⟩ := id hC
  obtain ⟨hu, u1, u2, u3⟩ := id hL
  obtain ⟨w1, w2, w3, w4, w5⟩ := u2 t ht
  obtain ⟨g1, g2, g3⟩ := (hW t ht).2.2.2 hgo
  have hlt := WlS_lt hu w1
  obtain ⟨o31, o32⟩ : mo M 31 = 7 ∧ mo M 32 = 7 := ⟨mo_cl (BdS_31 hP.1.1) (by decide) (by decide), mo_kw (q := 31) hx.1.2.2 (Or.inr (Or.inl rfl)) (BdS_31 hP.1.1) (by decide) (by decide)⟩
  -- the peer asks
  have step : ∀ M1 Y1, CB M1 m al N pa own sd ps sn pu rf tm lf b0 eg tk pb as nb mn fa Y1 h → yw Y1 = yw Y → yl Y1 = yl Y → yq Y1 = yq Y → ys Y1 = raS t (ys Y) → FK (fun z => z == 11) M M1 → ∃ M' h', j_X11_ask_2_20 ((wa pa t : Nat) : Int) (kx : Int) ad x4 M1 = some (b2i (askY N own sd tm (yw Y) (yp Y t) ad ty (ky (kC M kx)) bd (some t) none).2, M') ∧ CB M' m al N pa own sd ps sn pu rf tm lf b0 eg tk pb as nb mn fa ((askY N own sd tm (yw Y) (yp Y t) ad ty (ky (kC M kx)) bd (some t) none).1, yl Y, raS t (ys Y), yq Y) h' ∧ FK (fun z => z == 1 || z == 5 || z == 11) M M' := fun M1 Y1 c1 e1 e2 e3 e4 f => by
    have hkl := isK_lt hu hk
    have k1 : isK M1 kx := ExA.isK f hu (fun z => by simp at z; exact hkm.2.1 z) hk
    have kc : kC M1 kx = kC M kx := ExA.kC f hkl (fun z => by simp at z; exact hkm.2.2 z)
    have m1 : mo M1 kx = mo M kx := exa_mo f (by omega)
    have m2 : mo M1 (kx + 1) = mo M (kx + 1) := exa_mo f (by omega)
    have pk1 : PkC M1 31 (hdB ty 0 (kf (own (yp Y t))) ++ bd) := PkC_fk f hu hx (by rw [o31]; rfl) (by rw [o32]; rfl)
    have r2 : rR M1 (wa pa t) 2 = ((pa (yp Y t) : Nat) : Int) := by rw [f.rR (by omega) (by rw [(Wl_mo w1).1]; rfl)]; exact g1
    have k11 : (kd M1 (wa pa t)).1 = 11 := by rw [f.kd (by omega)]; exact w1.1
    have r5 : rI M1 (wa pa t) 5 = (lf t : Int) := (c1.2.1.2.2.1 t ht).2.2.2.2
    have p1 := c1.1
    rw [e1] at p1
    obtain ⟨M', h', a1, a2, a3⟩ := cp_ask0 (x3 := ((wa pa t : Nat) : Int)) (wk := some t) p1 ho hp k1 (by rw [m1, m2]; exact hkm.1) pk1 hty had (Or.inr ⟨t, ht, rfl, k11, r5, rfl⟩) h4
    rw [kc] at a1 a2
    have k17 : (kd M1 (pa (yp Y t))).1 = 17 := by rw [(p1.2.2.2.2.1.2.2 (yp Y t) hp).1.1]
    refine ⟨M', h', ?_, ?_, FK.trans (f.mono (fun z hz => by simp at hz ⊢; omega)) (a3.mono (fun z hz => by simp at hz ⊢; omega))⟩
    · unfold j_X11_ask_2_20
      rw [gfr_e k11, r2, Option.bind_some, ck_e k17, a1, Option.bind_some, bz_e (by cases (askY N own sd tm (yw Y) (yp Y t) ad ty (ky (kC M kx)) bd (some t) none).2; exact Or.inl rfl; exact Or.inr rfl)]
    · have L' : LksC M' m (12 + N) pa (yl Y) lf eg := by rw [← e2]; exact LksC_fk a3 (by decide) c1.2.1
      have c2 := CB_w c1 a2 L' a3 (by decide)
      rw [e3, e4] at c2
      exact c2
  unfold f_X11_ask_2
  rw [gfr_e w1.1, g2, Option.bind_some]
  by_cases c : vI (ys Y) 229 t < 0
  · rw [if_pos c, if_pos rfl]
    have er : raS t (ys Y) = ys Y := by unfold raS; rw [if_neg (by omega)]
    exact step M Y hC rfl rfl rfl er.symm .refl
  · obtain ⟨r, hr⟩ : ∃ r : Nat, yv Y 229 t = (r : Int) := ⟨(yv Y 229 t).toNat, by have c : ¬ yv Y 229 t < 0 := c; omega⟩
    have hr' : vI (ys Y) 229 t = (r : Int) := hr
    have rnb : r < nb := by omega
    have tc := hT.1 r rnb
    have k26 : (kd M (tk r)).1 = 26 := by rw [tc.1]
    rw [if_neg c, hr', show ((r : Nat) : Int).toNat = r from rfl, if_neg (by omega), Option.bind_some, gfi_e k26, Option.bind_some, pfi_e k26, Option.bind_some]
    have er : raS t (ys Y) = st2 (ys Y) 268 r (vI (ys Y) 268 r + 1) := by unfold raS; rw [if_pos (by omega), hr']; rfl
    have x3 : ExA (fun z => z = tk r) M (sI M (tk r) 3 (rI M (tk r) 3 + 1)) := (ExC_sI (A := fun z => z = tk r) rfl).exa
    have f3 : FK (fun z => z == 11) M (sI M (tk r) 3 (rI M (tk r) 3 + 1)) := FK_exa x3 (fun z _ hz => by rw [hz, mo_cl1 k26 (by decide) (by decide)]; rfl)
    refine step _ (yw Y, yl Y, raS t (ys Y), yq Y) ⟨cp_11 hP f3 (by decide) ⟨rfl, rfl⟩, LksC_fk f3 (by decide) hL, ?_, ?_⟩ rfl rfl rfl rfl f3
    · have W1 := Wks_fk hL f3 (by decide) hW
      exact fun t' ht' => Wk12_ag (W1 t' ht') (fun _ => rfl) (fun _ => rfl) (fun _ => rfl) (fun _ a z => raS_ne (by omega)) (raS_ne (by omega))
    · show TksC (sI M (tk r) 3 (rI M (tk r) 3 + 1)) nb tk (raS t (ys Y)) (yq Y) mn fa
      rw [er]
      refine Tks_w hu rnb hT x3 (fun r' z a y => vI_ne (by omega)) (fun _ _ => rfl) ?_
      obtain ⟨t1, t2, t3, t4, t5, t6, t7, t8⟩ := tc
      have R : ∀ i, i ≠ 3 → rI (sI M (tk r) 3 (rI M (tk r) 3 + 1)) (tk r) i = rI M (tk r) i := fun i z => by rw [rI_sI, if_neg (by omega)]
      have v : ∀ a i, a ≠ 268 → vI (st2 (ys Y) 268 r (vI (ys Y) 268 r + 1)) a i = vI (ys Y) a i := fun a i z => vI_ne (by omega)
      refine ⟨by rw [kd_sI]; exact t1, by rw [R 0 (by decide), v _ _ (by decide)]; exact t2, by rw [R 1 (by decide), v _ _ (by decide)]; exact t3, by rw [R 2 (by decide), v _ _ (by decide)]; exact t4, by rw [rI_sI, if_pos ⟨rfl, rfl⟩, vI_eq rfl, t5], by rw [R 4 (by decide)]; exact t6, fun z => ?_, fun z => by rw [rR_sI]; exact t8 (fun y => z (by rw [v _ _ (by decide)]; exact y))⟩
      have z2 : tldT (ys Y) r := by unfold tldT at z ⊢; rw [v _ _ (by decide), v _ _ (by decide)] at z; exact z
      obtain ⟨s1, s2, s3, s4⟩ := t7 z2
      have nf : fa r ≠ tk r := fun e => by rw [e, t1] at s2; exact absurd (congrArg Prod.fst s2) (by show ¬ (26 : Nat) = 528; decide)
      rw [v _ _ (by decide)]
      exact ⟨by rw [rR_sI]; exact s1, by rw [kd_sI]; exact s2, fun i hi => by rw [rI_sI, if_neg (fun e => nf e.1)]; exact s3 i hi, by rw [R 5 (by decide)]; exact s4⟩
end CASKW
