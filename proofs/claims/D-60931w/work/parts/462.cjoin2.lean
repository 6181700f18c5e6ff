/-- lives of the works -/
def LfS (t k : Nat) (lf lf' : Nat → Nat) : Prop := (∀ z, z ≠ t → lf' z = lf z) ∧ lf t ≤ lf' t ∧ lf' t ≤ lf t + k
theorem LfS.refl {t k : Nat} {lf : Nat → Nat} : LfS t k lf lf := ⟨fun _ _ => rfl, Nat.le_refl _, by omega⟩
theorem LfS.trans {t k j : Nat} {lf l1 l2 : Nat → Nat} (h : LfS t k lf l1) (h2 : LfS t j l1 l2) : LfS t (k + j) lf l2 := ⟨fun z hz => (h2.1 z hz).trans (h.1 z hz), Nat.le_trans h.2.1 h2.2.1, by have := h.2.2; have := h2.2.2; omega⟩
theorem LfS.mono {t k j : Nat} {lf l1 : Nat → Nat} (h : LfS t k lf l1) (hk : k ≤ j) : LfS t j lf l1 := ⟨h.1, h.2.1, by have := h.2.2; omega⟩
theorem LfS_1 {t : Nat} {lf : Nat → Nat} : LfS t 1 lf (fup lf t (lf t + 1)) := ⟨fun z hz => fup_ne hz, by rw [fup_eq]; omega, by rw [fup_eq]; omega⟩
def FJ : Nat → Bool := fun z => z == 1 || z == 5 || z == 6 || z == 7 || z == 11 || z == 12
section CJOIN2
variable {M M1 : MM} {m al N p t nb oth : Nat} {pa tk : Nat → Nat} {own : Nat → Ky} {sd ps sn pu rf : Nat → Int} {tm how : Int} {lf : Nat → Nat} {b0 : Nat × Nat} {h : Gh} {eg : EG} {pb as : Nat → Option Nat} {mn : Nat → Int} {fa : Nat → Nat} {Y : Ys} {ev : Nat → Nat} {Lb : Nat → List Trm}
/-- cells of a work but its own: the target's words, the joining -/
theorem CB_12 (hC : CB M m al N pa own sd ps sn pu rf tm lf b0 eg tk pb as nb mn fa Y h) (ht : t < 12 + N) (hx : ExC (fun z => z = wa pa t + 2 ∨ z = wa pa t + 3) M M1) {sc : VV} (hv : ∀ a i, (a = 226 ∨ a = 227 ∨ a = 228 ∨ a = 229 ∨ (265 ≤ a ∧ a ≤ 268) ∨ ((a = 241 ∨ a = 242) ∧ i ≠ t)) → vI sc a i = yv Y a i) (h3 : yv Y 226 t ≠ 0 → (yv Y 227 t = 0 ∨ yv Y 227 t = 4) → rI M1 (wa pa t + 3) 0 = b2i (decide (vI sc 242 t < 0)) ∧ (0 ≤ vI sc 242 t → rI M1 (wa pa t + 3) 1 = vI sc 242 t ∧ rI M1 (wa pa t + 3) 2 = vI sc 241 t)) : CB M1 m al N pa own sd ps sn pu rf tm lf b0 eg tk pb as nb mn fa (yw Y, yl Y, sc, yq Y) h ∧ FK (fun z => z == 12) M M1 := by
  obtain ⟨hP, hL, hW, hT⟩ := hC
  obtain ⟨hu, u1, u2, u3⟩ := id hL
  obtain ⟨w1, w2, w3, w4, w5⟩ := u2 t ht
  have x2 : ExA (A12 (wa pa t)) M M1 := hx.exa.mono (fun z hz => Or.inr hz)
  have f := FK_w12 w1 x2
  have na : ¬ (wa pa t = wa pa t + 2 ∨ wa pa t = wa pa t + 3) := by omega
  have R : ∀ i, rR M1 (wa pa t) i = rR M (wa pa t) i := fun i => hx.rR na i
  have I : ∀ i, rI M1 (wa pa t) i = rI M (wa pa t) i := fun i => hx.rI na i
  obtain ⟨k1, k2, k3, k4⟩ := hW t ht
  refine ⟨⟨cp_11 hP f (by decide) ⟨hx.nN, hx.nU⟩, LksC_w hL ht x2 (fun i _ => R i) (by rw [I]; exact w5) (fun _ _ => rfl), Wks_w hL ht x2 hW (fun t' z a y => hv a t' (by omega)) ⟨by rw [R]; exact k1, by rw [R]; exact k2, by rw [I, hv 226 t (by omega)]; exact k3, fun z => ?_⟩, Tks_sc (Tks_fk hu f (by decide) hT) (fun r _ a z => hv a r (by omega))⟩, f⟩
  rw [hv 226 t (by omega)] at z
  obtain ⟨g1, g2, g3, g4, g5, g6⟩ := k4 z
  rw [hv 228 t (by omega), hv 229 t (by omega), hv 227 t (by omega), R, R, R]
  exact ⟨g1, g2, fun y => ⟨(g3 y).1, h3 z y⟩, g4, g5, g6⟩
/-- a refreshing goes on -/
theorem c_goes13 (hC : CB M m al N pa own sd ps sn pu rf tm lf b0 eg tk pb as nb mn fa Y h) (ho : okW N own tm (yw Y)) (hrec : recY nb Y) (hh : hdW N Y t) (ht : t < 12 + N) (hlf : lf t + 1 < 2147483648) (hk : yv Y 227 t = 0 ∨ yv Y 227 t = 4) (h0 : 0 ≤ yv Y 242 t) (h1 : yv Y 241 t ≤ 159) (hd : dtW t (yw Y) = yw Y) :
    ∃ M' lf' eg' x, f_X13_goes ((wa pa t + 3 : Nat) : Int) ((wa pa t : Nat) : Int) M = some (x, M') ∧ CB M' m al N pa own sd ps sn pu rf tm lf' b0 eg' tk pb as nb mn fa (rfY m own t Y) h ∧ FK FJ M M' ∧ LfS t 1 lf lf' ∧ x = b2i (decide (yv (rfY m own t Y) 226 t ≠ 0)) := by
  obtain ⟨hP, hL, hW, hT⟩ := id hC
  obtain ⟨hu, u1, u2, u3⟩ := id hL
  obtain ⟨w1, w2, w3, w4, w5⟩ := u2 t ht
  have hgo : yv Y 226 t ≠ 0 := by rw [hh.1]; decide
  obtain ⟨g1, g2, g3, g4⟩ := (hW t ht).2.2.2 hgo
  obtain ⟨j1, j2, j3⟩ := g3 hk
  obtain ⟨j3, j4⟩ := j3 h0
  have pN : yp Y t < N := by have := hh.2.1.1; show (yv Y 228 t).toNat < N; omega
  have hlt := WlS_lt hu w1
  have k13 : (kd M (wa pa t + 3)).1 = 13 := by rw [w1.2.2.2.2.1]
  have hrc : yv Y 229 t = -1 ∨ (0 ≤ yv Y 229 t ∧ yv Y 229 t < (nb : Int)) := by
    by_cases c : t < 12
    · exact Or.inr (hrec.2 t c hgo).1
    · exact Or.inl (hh.2.2.2 (by omega)).1
  have w41 : w32 (yv Y 241 t) = yv Y 241 t := w32_vI
  have w42 : w32 (yv Y 242 t) = yv Y 242 t := w32_vI
  unfold f_X13_goes rfY
  rw [gfi_e k13, j3, Option.bind_some, gfi_e k13, j4, Option.bind_some, show w32 (vI (ys Y) 241 t) = yv Y 241 t from w41, show w32 (vI (ys Y) 242 t) = yv Y 242 t from w42]
  by_cases c : yv Y 241 t < yv Y 242 t
  · rw [if_pos c, if_pos c, ck_e w1.1]
    obtain ⟨M', e1, e2, e3⟩ := c_end (how := 1) hC ht hgo hrc (by
      by_cases c : t < 12
      · have := (hrec.2 t c hgo).2.1
        right; right; left; rw [this]; omega
      · right; left; have := (hh.2.2.2 (by omega)).1; omega) (by decide) hlf
    refine ⟨M', _, eg, 0, by rw [e1, Option.bind_some], e2, e3.mono (mo2 ⟨rfl, rfl⟩), LfS_1, ?_⟩
    rw [show yv (clY t 1 Y) 226 t = 0 from clS_0]; rfl
  · rw [if_neg c, if_neg c]
    obtain ⟨p, hp⟩ : ∃ p, p = yp Y t := ⟨_, rfl⟩
    have g1 : rR M (wa pa t) 2 = ((pa p : Nat) : Int) := by rw [hp]; exact g1
    obtain ⟨a, ha⟩ : ∃ a, a = wa pa t := ⟨_, rfl⟩
    rw [← ha] at g1 w1 hlt k13 j3 ⊢
    rw [← hp] at pN ⊢
    obtain ⟨i, hi⟩ : ∃ i : Nat, yv Y 242 t = (i : Int) := ⟨(yv Y 242 t).toNat, by omega⟩
    have hi' : vI (ys Y) 242 t = (i : Int) := hi
    have i160 : i < 160 := by omega
    have pe := hP.2.2.2.2.1.2.2 p pN
    have k17 : (kd M (pa p)).1 = 17 := by rw [pe.1.1]
    have kp : isK M (pa p + 1) := pe.1.2.2.2.2.1
    have ka : isK M (a + 1) := w1.2.2.2.1
    obtain ⟨M1, e1, e2, e3⟩ := e_X3_set ka kp
    have ex1 : ExC (fun z => z = a + 2 ∨ z = a + 3) M M1 := (ExC_ex e3).mono (fun z hz => Or.inl hz)
    have ka1 : isK M1 (a + 1) := ka.ex e3
    obtain ⟨M2, hM2⟩ : ∃ M2, M2 = sI M1 (a + 1 + 1) (i / 32) (bxor (rI M1 (a + 1 + 1) (i / 32)) (bshl 1 (31 - ((i % 32 : Nat) : Int)))) := ⟨_, rfl⟩
    have ex2 : ExC (fun z => z = a + 2 ∨ z = a + 3) M M2 := by
      rw [hM2]
      exact ex1.trans (ExC_sI (A := fun z => z = a + 2 ∨ z = a + 3) (Or.inl rfl))
    have ea3 : ∀ i, rI M2 (a + 3) i = rI M (a + 3) i := fun i => by
      rw [hM2, rI_ne (by omega)]
      exact e3.rI (by omega) i
    obtain ⟨C2, f2⟩ := CB_12 (sc := ys Y) hC ht (by rw [← ha]; exact ex2) (fun _ _ _ => rfl) (fun z y => by
      obtain ⟨q1, q2, q3⟩ := g3 y
      rw [← ha] at q2 q3 ⊢
      rw [ea3, ea3, ea3]; exact ⟨q2, q3⟩)
    have C2 : CB M2 m al N pa own sd ps sn pu rf tm lf b0 eg tk pb as nb mn fa Y h := C2
    have ka2 : isK M2 (a + 1) := by rw [hM2]; exact ka1.ex (Ex.st (A := fun z => z = a + 1 + 1) rfl)
    have kd2 : kd M2 (a + 1) = (3, 13) := by rw [hM2, kd_sI, e3.kd]; exact w1.2.2.1
    have key : ky (kC M2 (a + 1)) = turnK (own p) i := by
      unfold turnK
      have ko : ∀ j, j < 5 → kC M (pa p + 1) j = kf (own p) j := fun j hj => by rw [← pe.2.2.1]; exact (kf_ky _ hj).symm
      have each : ∀ j, j < 5 → kC M2 (a + 1) j = if j = i / 32 then w32 (bxor (kf (own p) j) (bshl 1 (31 - ((i % 32 : Nat) : Int)))) else kf (own p) j := fun j hj => by
        show rI M2 (a + 1 + 1) j = _
        rw [hM2, rI_sI]
        by_cases c : j = i / 32
        · rw [if_pos ⟨rfl, c⟩, if_pos c, ← c]
          have : rI M1 (a + 1 + 1) j = kf (own p) j := (e2 j hj).trans (ko j hj)
          rw [this]
        · rw [if_neg (fun z => c z.2), if_neg c]
          exact (e2 j hj).trans (ko j hj)
      exact ky_eq.mpr ⟨each 0 (by omega), each 1 (by omega), each 2 (by omega), each 3 (by omega), each 4 (by omega)⟩
    obtain ⟨M3, eg', r1, r2, r3⟩ := c_lookW (sk := false) (kx := a + 1) C2 ho ht hgo (by rw [← hp]; exact pN) ka2 (by rw [kd2]; decide) hd
    rw [key] at r2
    rw [← ha] at r1
    have r1 : f_X11_look (a : Int) ((a + 1 : Nat) : Int) 0 M2 = some (1, M3) := r1
    refine ⟨M3, lf, eg', 1, ?_, ?_, FK.trans (f2.mono (mo1 rfl)) (r3.mono (mo2 ⟨rfl, rfl⟩)), .refl, ?_⟩
    · rw [gfr_e w1.1, w1.2.1.2.2.1, Option.bind_some, gfr_e w1.1, g1, Option.bind_some, gfr_e k17, pe.1.2.2.1.2.1, Option.bind_some, ck_e ka.1, e1, Option.bind_some, gfr_e (by rw [e3.kd]; exact w1.1), e3.rR, w1.2.1.2.2.1, Option.bind_some, gfi_e (by rw [e3.kd]; exact k13), e3.rI (by omega), j3, Option.bind_some, hi', ck_e ka1.1, e_X3_turn ka1 i160, Option.bind_some, ← hM2, gfr_e (by rw [hM2, kd_sI, e3.kd]; exact w1.1), show rR M2 a 7 = ((a + 1 : Nat) : Int) from by rw [hM2, rR_sI, e3.rR]; exact w1.2.1.2.2.1, Option.bind_some, ck_e (by rw [hM2, kd_sI, e3.kd]; exact w1.1), r1, Option.bind_some, bz_e (Or.inr rfl)]
    · rw [hi]
      exact r2
    · rw [lk_v (by decide), hh.1]; rfl
end CJOIN2
section CJOIN3
variable {M M1 : MM} {m al N p t nb oth : Nat} {pa tk : Nat → Nat} {own : Nat → Ky} {sd ps sn pu rf : Nat → Int} {tm how : Int} {lf : Nat → Nat} {b0 : Nat × Nat} {h : Gh} {eg : EG} {pb as : Nat → Option Nat} {mn : Nat → Int} {fa : Nat → Nat} {Y : Ys} {ev : Nat → Nat} {Lb : Nat → List Trm}
theorem yp_lt (hh : hdW N Y t) : yp Y t < N := by have := hh.2.1.1; show (yv Y 228 t).toNat < N; omega
/-- a refreshing begins -/
theorem c_refresh (hC : CB M m al N pa own sd ps sn pu rf tm lf b0 eg tk pb as nb mn fa Y h) (ho : okW N own tm (yw Y)) (hT : ∀ x, x ∈ wT (yw Y) (yp Y t) → kyo x.1 ∧ x.1 ≠ own (yp Y t)) (hrec : recY nb Y) (hh : hdW N Y t) (ht : t < 12 + N) (hlf : lf t + 1 < 2147483648) (hk : yv Y 227 t = 0 ∨ yv Y 227 t = 4) (hd : dtW t (yw Y) = yw Y) :
    ∃ M' lf' eg' x, f_X13_refresh ((wa pa t + 3 : Nat) : Int) ((wa pa t : Nat) : Int) M = some (x, M') ∧ CB M' m al N pa own sd ps sn pu rf tm lf' b0 eg' tk pb as nb mn fa (brY m own t Y) h ∧ FK FJ M M' ∧ LfS t 1 lf lf' ∧ x = b2i (decide (yv (brY m own t Y) 226 t ≠ 0)) := by
  obtain ⟨hP, hL, hW, _⟩ := id hC
  obtain ⟨hu, u1, u2, u3⟩ := id hL
  obtain ⟨w1, w2, w3, w4, w5⟩ := u2 t ht
  have hgo : yv Y 226 t ≠ 0 := by rw [hh.1]; decide
  obtain ⟨g1, g2, g3, g4⟩ := (hW t ht).2.2.2 hgo
  have hlt := WlS_lt hu w1
  have k13 : (kd M (wa pa t + 3)).1 = 13 := by rw [w1.2.2.2.2.1]
  obtain ⟨p, hp⟩ : ∃ p, p = yp Y t := ⟨_, rfl⟩
  have pN := yp_lt hh
  have g1 : rR M (wa pa t) 2 = ((pa p : Nat) : Int) := by rw [hp]; exact g1
  obtain ⟨a, ha⟩ : ∃ a, a = wa pa t := ⟨_, rfl⟩
  have crng := okW_clo ho hT pN
  rw [← hp] at pN crng hT
  obtain ⟨c, hc⟩ : ∃ c, c = cloT (own p) (wT (yw Y) p) := ⟨_, rfl⟩
  rw [← hc] at crng
  obtain ⟨M2, hM2⟩ : ∃ M2, M2 = sI (sI M (a + 3) 0 0) (a + 3) 1 0 := ⟨_, rfl⟩
  obtain ⟨M3, hM3⟩ : ∃ M3, M3 = sI M2 (a + 3) 2 c := ⟨_, rfl⟩
  have ex2 : Ex (fun z => z = a + 3) M M2 := by rw [hM2]; exact Ex.trans (M1 := sI M (a + 3) 0 0) (Ex.st (A := fun z => z = a + 3) rfl) (Ex.st (A := fun z => z = a + 3) rfl)
  have ex3 : Ex (fun z => z = a + 3) M M3 := by rw [hM3]; exact ex2.trans (Ex.st (A := fun z => z = a + 3) rfl)
  have pe := hP.2.2.2.2.1.2.2 p pN
  have k17 : (kd M (pa p)).1 = 17 := by rw [pe.1.1]
  obtain ⟨Y1, hY1⟩ : ∃ Y1, Y1 = setV (setV Y 241 t c) 242 t 0 := ⟨_, rfl⟩
  have v : ∀ a i, ¬ ((a = 241 ∨ a = 242) ∧ i = t) → yv Y1 a i = yv Y a i := fun a i z => by
    rw [hY1]
    show vI (st2 (st2 (ys Y) 241 t c) 242 t 0) a i = _
    rw [vI_ne (by omega), vI_ne (by omega)]
  have v2 : yv Y1 242 t = 0 := by rw [hY1]; show vI (st2 (st2 (ys Y) 241 t c) 242 t 0) 242 t = 0; rw [vI_eq rfl]; rfl
  have v1 : yv Y1 241 t = c := by rw [hY1]; show vI (st2 (st2 (ys Y) 241 t c) 242 t 0) 241 t = c; rw [vI_ne (by omega), vI_eq rfl, w32_id (by omega) (by omega)]
  have ft : FT t Y Y1 := by rw [hY1]; exact (FT_v (by omega)).trans (FT_v (by omega))
  -- the table
  have C2 := CB_12 (sc := ys Y1) hC ht (M1 := M3) (by rw [← ha]; exact (ExC_ex ex3).mono (fun z hz => Or.inr hz)) (fun b i z => v b i (by omega)) (fun _ _ => by
    rw [← ha, show vI (ys Y1) 242 t = 0 from v2, show vI (ys Y1) 241 t = c from v1, hM3, hM2]
    refine ⟨?_, fun _ => ⟨?_, ?_⟩⟩
    · rw [rI_ne (by omega), rI_ne (by omega), rI_eq rfl]; rfl
    · rw [rI_ne (by omega), rI_eq rfl]; rfl
    · rw [rI_eq rfl, w32_id (by omega) (by omega)])
  obtain ⟨C3, f3⟩ := C2
  have eY : Y1 = (yw Y, yl Y, ys Y1, yq Y) := by rw [hY1]; rfl
  rw [← eY] at C3
  have ew : yw Y1 = yw Y := by rw [hY1]; rfl
  have hh1 : hdW N Y1 t := hd_ft hh ft (v 226 t (by omega))
  obtain ⟨M', lf', eg', x, r1, r2, r3, r4, r5⟩ := c_goes13 C3 (by rw [ew]; exact ho) (rec_ft hrec ft (fun z => by rw [v 226 t (by omega)] at z; exact z)) hh1 ht hlf (by rw [v _ _ (by omega)]; exact hk) (by omega) (by omega) (by rw [ew]; exact hd)
  have eb : brY m own t Y = rfY m own t Y1 := by
    unfold brY
    rw [← hp, ← hc, ← hY1]
  rw [eb]
  refine ⟨M', lf', eg', x, ?_, r2, FK.trans (f3.mono (mo1 rfl)) r3, r4, r5⟩
  have tbk := hP.2.2.1.2.2.2.2.2 p pN
  have t2 : TbsC M2 m N pa own (wT (yw Y)) (prF (wQ (yw Y))) h.2.1 := by
    have f2 : FK (fun z => z == 12) M M2 := FK_ex ex2 (fun z _ hz => by rw [hz, ha, (Wl_mo w1).2.2.2.1]; rfl)
    exact tbs_fk f2 (by decide) hP.2.2.1
  have cl := c_closest (t2.2.2.2.2.2 p pN).2
  rw [← hc] at cl
  have k20 : (kd M2 (pa p + 10)).1 = 20 := ((t2.2.2.2.2.2 p pN).2).1.2.1.1
  rw [← ha] at r1 k13 g1 w1 ⊢
  unfold f_X13_refresh
  rw [pfz_e k13 (Or.inl rfl), Option.bind_some, pfi_e (by rw [kd_sI]; exact k13), Option.bind_some, ← hM2, gfr_e (by rw [ex2.kd]; exact w1.1), ex2.rR, g1, Option.bind_some, gfr_e (by rw [ex2.kd]; exact k17), ex2.rR, pe.1.2.2.1.2.2.1, Option.bind_some, ck_e k20, cl, Option.bind_some, pfi_e (by rw [ex2.kd]; exact k13), Option.bind_some, ← hM3, ck_e (by rw [ex3.kd]; exact k13), r1, Option.bind_some, bz_e (by rw [r5]; cases decide (yv (rfY m own t Y1) 226 t ≠ 0); exact Or.inl rfl; exact Or.inr rfl)]
/-- behind a lookup of a joining -/
theorem c_looked13 (hC : CB M m al N pa own sd ps sn pu rf tm lf b0 eg tk pb as nb mn fa Y h) (ho : okW N own tm (yw Y)) (hT : ∀ x, x ∈ wT (yw Y) (yp Y t) → kyo x.1 ∧ x.1 ≠ own (yp Y t)) (hrec : recY nb Y) (hh : hdW N Y t) (ht : t < 12 + N) (hlf : lf t + 1 < 2147483648) (hk : yv Y 227 t = 0 ∨ yv Y 227 t = 4) (hr : 0 ≤ yv Y 242 t → yv Y 242 t ≤ yv Y 241 t ∧ yv Y 241 t ≤ 159) (hd : dtW t (yw Y) = yw Y) :
    ∃ M' lf' eg' x, f_X13_looked ((wa pa t + 3 : Nat) : Int) ((wa pa t : Nat) : Int) M = some (x, M') ∧ CB M' m al N pa own sd ps sn pu rf tm lf' b0 eg' tk pb as nb mn fa (behY m N own sd tm Lb t Y) h ∧ FK FJ M M' ∧ LfS t 1 lf lf' ∧ x = b2i (decide (yv (behY m N own sd tm Lb t Y) 226 t ≠ 0)) := by
  obtain ⟨hP, hL, hW, _⟩ := id hC
  obtain ⟨hu, u1, u2, u3⟩ := id hL
  obtain ⟨w1, w2, w3, w4, w5⟩ := u2 t ht
  have hgo : yv Y 226 t ≠ 0 := by rw [hh.1]; decide
  obtain ⟨g1, g2, g3, g4⟩ := (hW t ht).2.2.2 hgo
  obtain ⟨j1, j2, j3⟩ := g3 hk
  have k13 : (kd M (wa pa t + 3)).1 = 13 := by rw [w1.2.2.2.2.1]
  unfold behY
  rw [if_pos hk]
  unfold f_X13_looked
  rw [gfi_e k13, j2, Option.bind_some, w32_b2i]
  by_cases c : yv Y 242 t < 0
  · rw [if_pos c, decide_eq_true (show vI (ys Y) 242 t < 0 from c), if_neg (by decide), ck_e k13]
    obtain ⟨M', lf', eg', x, r1, r2, r3, r4, r5⟩ := c_refresh hC ho hT hrec hh ht hlf hk hd
    exact ⟨M', lf', eg', x, by rw [r1, Option.bind_some, bz_e (by rw [r5]; cases decide (yv (brY m own t Y) 226 t ≠ 0); exact Or.inl rfl; exact Or.inr rfl)], r2, r3, r4, r5⟩
  · rw [if_neg c, decide_eq_false (show ¬ vI (ys Y) 242 t < 0 from c), if_pos (by decide)]
    obtain ⟨j4, j5⟩ := j3 (show 0 ≤ vI (ys Y) 242 t by have c : ¬ vI (ys Y) 242 t < 0 := c; omega)
    have hr := hr (by omega)
    obtain ⟨a, ha⟩ : ∃ a, a = wa pa t := ⟨_, rfl⟩
    rw [← ha] at k13 j2 j4 j5 ⊢
    obtain ⟨Y1, hY1⟩ : ∃ Y1, Y1 = setV Y 242 t (yv Y 242 t + 1) := ⟨_, rfl⟩
    have v : ∀ a i, ¬ (a = 242 ∧ i = t) → yv Y1 a i = yv Y a i := fun a i z => by rw [hY1]; exact vI_ne z
    have v2 : yv Y1 242 t = yv Y 242 t + 1 := by rw [hY1]; show vI (st2 (ys Y) 242 t (yv Y 242 t + 1)) 242 t = _; rw [vI_eq rfl, w32s (by omega)]
    have ft : FT t Y Y1 := by rw [hY1]; exact FT_v (by omega)
    obtain ⟨M2, hM2⟩ : ∃ M2, M2 = sI M (a + 3) 1 (yv Y 242 t + 1) := ⟨_, rfl⟩
    obtain ⟨C3, f3⟩ := CB_12 (sc := ys Y1) hC ht (M1 := M2) (by rw [hM2, ← ha]; exact ExC_sI (A := fun z => z = a + 2 ∨ z = a + 3) (Or.inr rfl)) (fun b i z => v b i (by omega)) (fun _ _ => by
      rw [← ha, show vI (ys Y1) 242 t = _ from v2, show vI (ys Y1) 241 t = yv Y 241 t from v _ _ (by omega), hM2]
      refine ⟨?_, fun _ => ⟨?_, ?_⟩⟩
      · rw [rI_ne (by omega), j2, decide_eq_false (show ¬ yv Y 242 t + 1 < 0 by omega), decide_eq_false (show ¬ vI (ys Y) 242 t < 0 from c)]
      · rw [rI_eq rfl, w32s (by omega)]
      · rw [rI_ne (by omega)]; exact j5)
    have eY : Y1 = (yw Y, yl Y, ys Y1, yq Y) := by rw [hY1]; rfl
    rw [← eY] at C3
    have ew : yw Y1 = yw Y := by rw [hY1]; rfl
    obtain ⟨M', lf', eg', x, r1, r2, r3, r4, r5⟩ := c_goes13 C3 (by rw [ew]; exact ho) (rec_ft hrec ft (fun z => by rw [v 226 t (by omega)] at z; exact z)) (hd_ft hh ft (v 226 t (by omega))) ht hlf (by rw [v _ _ (by omega)]; exact hk) (by omega) (by rw [v _ _ (by omega)]; omega) (by rw [ew]; exact hd)
    rw [← ha] at r1
    rw [← hY1]
    refine ⟨M', lf', eg', x, ?_, r2, FK.trans (f3.mono (mo1 rfl)) r3, r4, r5⟩
    rw [gfi_e k13, j4, Option.bind_some, show vI (ys Y) 242 t + 1 = yv Y 242 t + 1 from rfl, pfi_e k13, Option.bind_some, ← hM2, ck_e (by rw [hM2, kd_sI]; exact k13), r1, Option.bind_some, bz_e (by rw [r5]; cases decide (yv (rfY m own t Y1) 226 t ≠ 0); exact Or.inl rfl; exact Or.inr rfl)]
end CJOIN3
