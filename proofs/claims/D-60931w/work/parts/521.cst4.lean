/-! a refreshing starts in the background: the class -/
section CST4
variable {S : Nat → Bool} {M M1 : MM} {V W sc : VV} {m al N p t t' nb oth Z L k K kx n : Nat} {pa tk : Nat → Nat} {own : Nat → Ky} {sd ps sn pu rf : Nat → Int} {tm kind x2 x3 : Int} {lf : Nat → Nat} {b b0 B : Nat × Nat} {h h' : Gh} {eg : EG} {pb as : Nat → Option Nat} {mn sto : Nat → Int} {fa : Nat → Nat} {Y Y1 : Ys} {Lb : Nat → List Trm} {LA : Nat → List Nat} {dn : Nat → Int} {ev tn nS : Nat → Nat} {w : Wd}
/-- the state with a background work open -/
def opY (t : Nat) (kind : Int) (p : Nat) (Y : Ys) : Ys := (dtW t (yw Y), yl Y, opB t kind p (ys Y), yq Y)
theorem op_ne {a i : Nat} (hz : ¬ ((a = 226 ∨ a = 227 ∨ a = 228 ∨ a = 229) ∧ i = t)) : yv (opY t kind p Y) a i = yv Y a i := opB_ne hz
theorem op_eq (hk : 0 ≤ kind ∧ kind ≤ 5) (hp : p < 32) : yv (opY t kind p Y) 226 t = 1 ∧ yv (opY t kind p Y) 227 t = kind ∧ yv (opY t kind p Y) 228 t = (p : Int) ∧ yv (opY t kind p Y) 229 t = -1 := opB_eq hk hp
theorem op_hd (hk : 0 ≤ kind ∧ kind ≤ 5) (hp : p < N) (hN : N ≤ 32) (h12 : t = 12 + p) : hdW N (opY t kind p Y) t ∧ yp (opY t kind p Y) t = p := by
  obtain ⟨a1, a2, a3, a4⟩ := op_eq (t := t) (Y := Y) hk (show p < 32 by omega)
  have yp' : yp (opY t kind p Y) t = p := by unfold yp; show (yv (opY t kind p Y) 228 t).toNat = p; omega
  exact ⟨⟨a1, ⟨by omega, Or.inl a4⟩, by omega, fun _ => ⟨a4, by omega⟩⟩, yp'⟩
theorem op_rec (hr : recY nb Y) (h12 : 12 ≤ t) : recY nb (opY t kind p Y) := by
  refine ⟨hr.1, fun t' ht' z => ?_⟩
  have e : ∀ a x, x < 12 → yv (opY t kind p Y) a x = yv Y a x := fun a x hx => op_ne (by omega)
  have e2 : ∀ a x, 260 ≤ a → yv (opY t kind p Y) a x = yv Y a x := fun a x hx => op_ne (by omega)
  rw [e 226 t' ht'] at z
  obtain ⟨a1, a2, a3⟩ := hr.2 t' ht' z
  refine ⟨by rw [e 229 t' ht']; exact a1, by rw [e 229 t' ht', e2 265 _ (by decide), e 227 t' ht']; exact a2, fun t'' h'' hne z'' => ?_⟩
  rw [e 226 t'' h''] at z''
  rw [e 229 t'' h'', e 229 t' ht']
  exact a3 t'' h'' hne z''
theorem Pubs_o {T : Nat} {sc' : VV} (h : PubsC M T pb Lb LA sto sc) (hv : ∀ t', t' ≠ t → ∀ a, (226 ≤ a ∧ a ≤ 264 ∧ a ≠ 250 ∧ a ≠ 252) → vI sc' a t' = vI sc a t') (hk : vI sc' 226 t ≠ 0 → vI sc' 227 t ≠ 2) : PubsC M T pb Lb LA sto sc' := Pubs_sc h (fun t' ht' z1 z2 => by
  by_cases c : t' = t
  · rw [c] at z1 z2; exact absurd z2 (hk z1)
  · rw [hv t' c 226 (by omega)] at z1
    rw [hv t' c 227 (by omega)] at z2
    exact ⟨⟨z1, z2⟩, fun a ha => hv t' c a (by omega)⟩)
theorem Asks_o {T : Nat} {sc' : VV} {q : Qs} (h : AsksC M T as sc q) (hv : ∀ t', t' ≠ t → ∀ a, (226 ≤ a ∧ a ≤ 264 ∧ a ≠ 250 ∧ a ≠ 252) → vI sc' a t' = vI sc a t') (h5 : ∀ a i, a = 250 ∨ a = 252 → vI sc' a i = vI sc a i) (hk : vI sc' 226 t ≠ 0 → vI sc' 227 t ≠ 3) (h3 : ∀ t, t < T → vI sc 226 t ≠ 0 → vI sc 227 t = 3 → vI sc 247 t ≤ 3) : AsksC M T as sc' q := ⟨fun t' ht' Q hQ => by
  obtain ⟨a1, a2⟩ := h.1 t' ht' Q hQ
  refine ⟨a1, fun z1 z2 => ?_⟩
  by_cases c : t' = t
  · rw [c] at z1 z2; exact absurd z2 (hk z1)
  · rw [hv t' c 226 (by omega)] at z1
    rw [hv t' c 227 (by omega)] at z2
    exact AsF_ag (a2 z1 z2) a1 (fun _ _ _ => rfl) (fun a y => hv t' c a (by omega)) (fun i hi => ⟨h5 250 _ (Or.inl rfl), h5 252 _ (Or.inr rfl)⟩) (h3 t' ht' z1 z2) ⟨rfl, rfl, rfl, rfl⟩ (fun i hi => ⟨rfl, rfl⟩), h.2⟩
theorem c_start4 (hW : CW M m al N pa own sd ps sn pu rf tm lf b0 eg tk pb as nb mn fa Lb LA dn sto Y h) (h3 : ∀ t, t < 12 + N → yv Y 226 t ≠ 0 → yv Y 227 t = 3 → yv Y 247 t ≤ 3) (ho : okW N own tm (yw Y)) (hp : p < N) (hN : N ≤ 32) (h12 : t = 12 + p) (hlf : lf t + 2 < 2147483648) :
    ∃ M' lf' eg' x, ((f_X13_from ((wa pa t + 3 : Nat) : Int) 0 M).bind fun r1 => f_X11_start ((wa pa t : Nat) : Int) ((pa p : Nat) : Int) r1.1 (-1) r1.2) = j_X11_start_38 ((wa pa t : Nat) : Int) x M' ∧ CW M' m al N pa own sd ps sn pu rf tm lf' b0 eg' tk pb as nb mn fa Lb LA dn sto (brY m own t (opY t 4 p Y)) h ∧ FK F11 M M' ∧ LfS t 2 lf lf' ∧ x = b2i (decide (yv (brY m own t (opY t 4 p Y)) 226 t ≠ 0)) := by
  obtain ⟨⟨hC, hPub, hLb, hrec, hmn, hst⟩, hA⟩ := hW
  have ht : t < 12 + N := by omega
  obtain ⟨hP, hL, hWk, hTk⟩ := id hC
  obtain ⟨hu, u1, u2, u3⟩ := id hL
  obtain ⟨w1, w2, w3, w4, w5⟩ := u2 t ht
  obtain ⟨a, ha⟩ : ∃ a, a = wa pa t := ⟨_, rfl⟩
  have tt := (hP.2.2.1.2.2.2.2.2 p hp).2
  have okt : okT (own p) (wT (yw Y) p) := tt.2.2.2.2.2.1
  have crng := okW_clo ho (fun x hx => ⟨(okt.2.2 x hx).1, (okt.2.2 x hx).2.2⟩) hp
  obtain ⟨c, hc⟩ : ∃ c, c = cloT (own p) (wT (yw Y) p) := ⟨_, rfl⟩
  rw [← hc] at crng
  obtain ⟨hd, hyp⟩ := op_hd (t := t) (kind := 4) (Y := Y) (by decide) hp hN h12
  obtain ⟨o1, o2, o3, o4⟩ := op_eq (t := t) (kind := 4) (p := p) (Y := Y) (by decide) (by omega)
  rw [← ha] at w1 w5 ⊢
  obtain ⟨Ma, hMa⟩ : ∃ Ma, Ma = sI M (a + 3) 0 0 := ⟨_, rfl⟩
  obtain ⟨M5, hM5⟩ : ∃ M5, M5 = opM Ma a (pa p) ((a + 3 : Nat) : Int) (-1) (lf t) := ⟨_, rfl⟩
  obtain ⟨M7, hM7⟩ : ∃ M7, M7 = sI (sI M5 (a + 3) 0 0) (a + 3) 1 0 := ⟨_, rfl⟩
  obtain ⟨M8, hM8⟩ : ∃ M8, M8 = sI M7 (a + 3) 2 c := ⟨_, rfl⟩
  have A3 : A12 a (a + 3) := Or.inr (Or.inr rfl)
  have A0 : A12 a a := Or.inl rfl
  have xa : ExC (A12 a) M Ma := by rw [hMa]; exact ExC_sI A3
  have x5 : ExC (A12 a) M M5 := by
    rw [hM5]
    unfold opM
    exact ((((xa.trans (ExC_sR A0)).trans (ExC_sR A0)).trans (ExC_sR A0)).trans (ExC_sI A0)).trans (ExC_sI A0)
  have x7 : ExC (A12 a) M M7 := by rw [hM7]; exact (x5.trans (ExC_sI A3)).trans (ExC_sI A3)
  have x8 : ExC (A12 a) M M8 := by rw [hM8]; exact x7.trans (ExC_sI A3)
  obtain ⟨⟨f2, f3, f4, f6, f5⟩, fr, fo, fk⟩ := opM_f (M := Ma) (a := a) (q := pa p) (x2 := ((a + 3 : Nat) : Int)) (x3 := -1) (l := lf t) (by omega)
  rw [← hM5] at f2 f3 f4 f6 f5 fr fo fk
  have R8 : ∀ i, rR M8 a i = rR M5 a i := fun i => by rw [hM8, hM7]; rfl
  have I8 : ∀ i, rI M8 a i = rI M5 a i := fun i => by rw [hM8, hM7, rI_ne (by omega), rI_ne (by omega), rI_ne (by omega)]
  have Ra : ∀ i, rR Ma a i = rR M a i := fun i => by rw [hMa]; rfl
  obtain ⟨sc1, hsc1⟩ : ∃ sc1, sc1 = st2 (st2 (opB t 4 p (ys Y)) 241 t c) 242 t 0 := ⟨_, rfl⟩
  have v1 : ∀ b i, ¬ ((b = 241 ∨ b = 242) ∧ i = t) → vI sc1 b i = yv (opY t 4 p Y) b i := fun b i z => by
    rw [hsc1, vI_ne (by omega), vI_ne (by omega)]; rfl
  have v242 : vI sc1 242 t = 0 := by rw [hsc1, vI_eq rfl]; rfl
  have v241 : vI sc1 241 t = c := by rw [hsc1, vI_ne (by omega), vI_eq rfl, w32_id (by omega) (by omega)]
  obtain ⟨k1, k2, k3, k4⟩ := hWk t ht
  rw [← ha] at k1 k2
  have hop := CB_op (sc := sc1) hC ht (M1 := M8) (by rw [← ha]; exact x8.exa) ⟨x8.nN, x8.nU⟩ (fun i hi => by rw [← ha, R8, fr i (by omega) (by omega) (by omega), Ra]) (by rw [← ha, I8]; exact f5) (fun t' hne b hb => by rw [v1 b t' (by omega)]; exact op_ne (by omega)) (fun r _ b hb => by rw [v1 b r (by omega)]; exact op_ne (by omega)) (by
    unfold Wk12
    rw [← ha, R8, R8, I8, fr 10 (by decide) (by decide) (by decide), fr 11 (by decide) (by decide) (by decide), Ra, Ra, v1 226 t (by omega), o1, f6, R8, R8, R8, v1 228 t (by omega), v1 229 t (by omega), v1 227 t (by omega), o2, o3, o4, f2, f3, f4, v242, v241]
    refine ⟨k1, k2, rfl, fun _ => ⟨by rw [Int.toNat_natCast], by rw [if_pos (by decide)], fun _ => ⟨rfl, ?_, fun _ => ⟨?_, ?_⟩⟩, fun z => absurd z (by decide), fun z => absurd z (by decide), fun z => absurd z (by decide)⟩⟩
    · rw [hM8, rI_ne (by omega), hM7, rI_ne (by omega), rI_eq rfl]; rfl
    · rw [hM8, rI_ne (by omega), hM7, rI_eq rfl]; rfl
    · rw [hM8, rI_eq rfl, w32_id (by omega) (by omega)])
  obtain ⟨C8, g8⟩ := hop
  obtain ⟨Yo, hYo⟩ : ∃ Yo, Yo = opY t 4 p Y := ⟨_, rfl⟩
  obtain ⟨Y1, hY1⟩ : ∃ Y1, Y1 = setV (setV Yo 241 t c) 242 t 0 := ⟨_, rfl⟩
  have eY : ((dtW t (yw Y), yl Y, sc1, yq Y) : Ys) = Y1 := by rw [hY1, hYo, hsc1]; rfl
  rw [eY] at C8
  have ft : FT t Yo Y1 := by rw [hY1]; exact (FT_v (by omega)).trans (FT_v (by omega))
  have y1 : ∀ b i, ¬ ((b = 241 ∨ b = 242) ∧ i = t) → yv Y1 b i = yv Yo b i := fun b i z => by rw [← eY, hYo]; exact v1 b i z
  have y242 : yv Y1 242 t = 0 := by rw [← eY]; exact v242
  have y241 : yv Y1 241 t = c := by rw [← eY]; exact v241
  have hh1 : hdW N Y1 t := hd_ft (by rw [hYo]; exact hd) ft (y1 226 t (by omega))
  have rc1 : recY nb Y1 := rec_ft (by rw [hYo]; exact op_rec hrec (by omega)) ft (fun z => by rw [y1 226 t (by omega)] at z; exact z)
  have ew : yw Y1 = dtW t (yw Y) := by rw [← eY]
  obtain ⟨M', lf', eg', x, r1, r2, r3, r4, r5⟩ := c_goes13 C8 (by rw [ew]; exact ok_dt ho) rc1 hh1 ht (by rw [fup_eq]; omega) (by rw [y1 _ _ (by omega), hYo]; exact Or.inr o2) (by omega) (by omega) (by rw [ew]; exact dtW_dtW)
  rw [← ha] at r1
  have ebr : brY m own t Yo = rfY m own t Y1 := by
    unfold brY
    rw [hY1, hYo, hyp, hc]
    rfl
  have hu8 := g8.un hu
  have fM : FK F11 M M' := (g8.mono (fun z hz => by rw [beq_iff_eq.mp hz]; rfl)).trans (r3.mono (fun z hz => by unfold FJ at hz; unfold F11; simp only [Bool.or_eq_true, beq_iff_eq] at hz ⊢; omega))
  have fM' : FK FJ M M' := (g8.mono (fun z hz => by rw [beq_iff_eq.mp hz]; rfl)).trans r3
  have fall : FT t Yo (brY m own t Yo) := FT_br
  have hgo1 : yv (brY m own t Yo) 226 t ≠ 0 → yv Yo 226 t ≠ 0 := fun _ => by rw [hYo, o1]; decide
  refine ⟨M', lf', eg', x, ?_, ⟨⟨by rw [← hYo, ebr]; exact r2, ?_, Libs_fk r3 hu8 rfl (Libs_fk g8 hu rfl hLb), ?_, fun r hr => ?_, fun t' h' z1 z2 => ?_⟩, ?_⟩, fM, ⟨fun z hz => by rw [r4.1 z hz, fup_ne hz], by have := r4.2.1; rw [fup_eq] at this; omega, by have := r4.2.2; rw [fup_eq] at this; omega⟩, by rw [← hYo, ebr]; exact r5⟩
  · -- the code
    have k13 : (kd M (a + 3)).1 = 13 := by rw [w1.2.2.2.2.1]
    have k5 : (kd M5 (a + 3)).1 = 13 := by rw [x5.kd]; exact k13
    have k11 : (kd Ma a).1 = 11 := by rw [xa.kd]; exact w1.1
    have s0 := c_start0 (M := Ma) (pa := pa) (t := t) (p := p) (lf := lf) (kx := a + 3) (x3 := -1) (by rw [← ha]; exact k11) (by rw [← ha, hMa, rI_ne (by omega)]; exact w5)
    rw [← ha, ← hM5, ckE_t k5] at s0
    have pe := (hP.2.2.2.2.1.2.2 p hp).1
    have nA : ¬ A12 a (pa p) := fun e => by
      have k17 : (kd M (pa p)).1 = 17 := by rw [pe.1]
      rcases e with e | e | e
      · rw [e, w1.1] at k17; exact absurd k17 (by decide)
      · rw [e, show a + 2 = a + 1 + 1 from rfl, w1.2.2.2.1.2.2] at k17; exact absurd k17 (by decide)
      · rw [e, k13] at k17; exact absurd k17 (by decide)
    have k17 : (kd M7 (pa p)).1 = 17 := by rw [x7.kd, pe.1]
    have t7 : TbsC M7 m N pa own (wT (yw Y)) (prF (wQ (yw Y))) h.2.1 := tbs_fk (FK_w12 (by rw [← ha]; exact w1) (by rw [← ha]; exact x7.exa)) (by decide) hP.2.2.1
    have cl := c_closest (t7.2.2.2.2.2 p hp).2
    rw [← hc] at cl
    have k20 : (kd M7 (pa p + 10)).1 = 20 := ((t7.2.2.2.2.2 p hp).2).1.2.1.1
    have k7 : (kd M7 a).1 = 11 := by rw [x7.kd]; exact w1.1
    have ref : f_X13_refresh ((a + 3 : Nat) : Int) ((a : Nat) : Int) M5 = some (x, M') := by
      unfold f_X13_refresh
      rw [pfz_e k5 (Or.inl rfl), Option.bind_some, pfi_e (by rw [kd_sI]; exact k5), Option.bind_some, ← hM7, gfr_e k7, Option.bind_some, show rR M7 a 2 = ((pa p : Nat) : Int) by rw [hM7]; exact f2, gfr_e k17, Option.bind_some, x7.rR nA, pe.2.2.1.2.2.1, ck_e k20, cl, Option.bind_some, pfi_e (by rw [x7.kd]; exact k13), Option.bind_some, ← hM8, ck_e (by rw [x8.kd]; exact k13), r1, Option.bind_some]
      rw [bz_e (show x = 0 ∨ x = 1 by rw [r5]; cases decide (yv (rfY m own t Y1) 226 t ≠ 0) <;> decide)]
    unfold f_X13_from
    rw [pfz_e k13 (Or.inl rfl), Option.bind_some, Option.bind_some, ← hMa]
    show f_X11_start (a : Int) ((pa p : Nat) : Int) ((a + 3 : Nat) : Int) (-1) Ma = _
    rw [s0]
    unfold f_X13_begin
    rw [gfi_e k5, Option.bind_some, show rI M5 (a + 3) 0 = 0 by rw [(fo (a + 3) 0 (by omega)).2, hMa, rI_eq rfl]; rfl, if_pos (by decide), ck_e k5, ref, Option.bind_some]
    unfold j_X13_begin_27
    rw [bz_e (show x = 0 ∨ x = 1 by rw [r5]; cases decide (yv (rfY m own t Y1) 226 t ≠ 0) <;> decide)]
    rfl
  · -- publishings
    rw [← hYo]
    refine Pubs_ft (Y := Yo) ?_ (by rw [hYo, o2]; decide) fall
    rw [hYo]
    exact Pubs_o (t := t) (Pubs_fk fM' hu (by decide) hPub) (fun t' hne a ha => opB_ne (by omega)) (fun _ => by rw [show vI (ys (opY t 4 p Y)) 227 t = 4 from o2]; decide)
  · rw [← hYo]
    exact rec_ft (by rw [hYo]; exact op_rec hrec (by omega)) fall hgo1
  · rw [← hYo, br_269, hYo, op_ne (by omega)]; exact hmn r hr
  · rw [← hYo] at z1 z2 ⊢
    have g : ∀ b, 226 ≤ b → b ≤ 229 → yv (brY m own t Yo) b t' = yv Y b t' := fun b y1 y2 => (fall.2.2.1 b t' (by unfold wrT; omega)).trans (by rw [hYo]; exact op_ne (by omega))
    rw [g 226 (by omega) (by omega)] at z1
    rw [g 227 (by omega) (by omega)] at z2
    rw [g 229 (by omega) (by omega), br_269, hYo, op_ne (by omega)]
    exact hst t' h' z1 z2
  · rw [← hYo]
    refine Asks_ft (Y := Yo) ?_ fall (fun _ => by rw [hYo, o2]; decide) (fun t' ht' z1 z2 => ?_)
    · rw [hYo]
      exact Asks_o (t := t) (Asks_fk fM' hu (by decide) h3 hA) (fun t' hne a ha => opB_ne (by omega)) (fun a i ha => opB_ne (by omega)) (fun _ => by rw [show vI (ys (opY t 4 p Y)) 227 t = 4 from o2]; decide) h3
    · rw [hYo] at z1 z2 ⊢
      by_cases c : t' = t
      · rw [c, o2] at z2; exact absurd z2 (by decide)
      · rw [op_ne (by omega)] at z1 z2 ⊢
        exact h3 t' ht' z1 z2
end CST4
