/-! the class's works go on -/
/-- more cells only for a work that has told -/
def BS (b b' : Nat × Nat) (Y : Ys) (t : Nat) : Prop := b' = b ∨ (b' = (b.1 + 1, b.2 + 180) ∧ yv Y 226 t = 0 ∧ t < 12)
section CGOON
variable {S : Nat → Bool} {M M1 M2 : MM} {m al N p t nb n P k oth : Nat} {pa tk : Nat → Nat} {own : Nat → Ky} {sd ps sn pu rf : Nat → Int} {tm how : Int} {lf : Nat → Nat} {b0 : Nat × Nat} {h : Gh} {eg : EG} {pb as : Nat → Option Nat} {mn sto : Nat → Int} {fa : Nat → Nat} {Y Y1 : Ys} {Lb : Nat → List Trm} {LA : Nat → List Nat} {dn : Nat → Int} {ev : Nat → Nat}
theorem F8_of {S : Nat → Bool} (h : ∀ z, S z = true → z = 1 ∨ z = 3 ∨ z = 5 ∨ z = 6 ∨ z = 7 ∨ z = 11 ∨ z = 12 ∨ z = 13) : ∀ z, S z = true → F8 z = true := fun z hz => by
  rcases h z hz with e | e | e | e | e | e | e | e <;> rw [e] <;> rfl
theorem F5_8 : ∀ z, F5 z = true → F8 z = true := F8_of (fun z hz => by unfold F5 at hz; simp at hz; omega)
theorem FJ_8 : ∀ z, FJ z = true → F8 z = true := F8_of (fun z hz => by unfold FJ at hz; simp at hz; omega)
/-- works that are not of t: what is told of them stays -/
theorem sto_ft (h : ∀ t, t < 12 → yv Y 226 t ≠ 0 → yv Y 227 t = 2 → sto t = yv Y 269 (yv Y 229 t).toNat) (hrec : recY nb Y) (hgo : yv Y 226 t ≠ 0) (f : FT t Y Y1) (ht12 : t < 12 ∨ yv Y 229 t < 0) : ∀ t', t' ≠ t → t' < 12 → yv Y1 226 t' ≠ 0 → yv Y1 227 t' = 2 → sto t' = yv Y1 269 (yv Y1 229 t').toNat := fun t' z h12 z1 z2 => by
  have g : ∀ a, 226 ≤ a → a ≤ 229 → yv Y1 a t' = yv Y a t' := fun a y1 y2 => f.2.2.1 a t' (by unfold wrT; omega)
  rw [g 226 (by omega) (by omega)] at z1
  rw [g 227 (by omega) (by omega)] at z2
  rw [g 229 (by omega) (by omega), h t' h12 z1 z2]
  refine (f.2.2.1 269 (yv Y 229 t').toNat ?_).symm
  obtain ⟨a1, _, a3⟩ := hrec.2 t' h12 z1
  unfold wrT
  rcases ht12 with y | y
  · have := a3 t y (fun e => z e.symm) hgo
    have := (hrec.2 t y hgo).1
    omega
  · omega
/-- other records stay -/
theorem mn_ft (f : FT t Y Y1) (h : ∀ r, r < nb → mn r = yv Y 269 r) : ∀ r : Nat, r < nb → ¬ (0 ≤ yv Y 229 t ∧ r = (yv Y 229 t).toNat) → mn r = yv Y1 269 r := fun r hr z => by
  rw [h r hr]
  exact (f.2.2.1 269 r (by unfold wrT; omega)).symm
theorem Pubs_ft (hPub : PubsC M (12 + N) pb Lb LA sto (ys Y)) (hk : yv Y 227 t ≠ 2) (f : FT t Y Y1) : PubsC M (12 + N) pb Lb LA sto (ys Y1) := Pubs_sc hPub (fun t' _ z1 z2 => by
  by_cases e : t' = t
  · rw [e] at z2
    exact absurd (f.2.2.2.1.1.symm.trans z2) hk
  · have g : ∀ a, (226 ≤ a ∧ a ≤ 230) ∨ (243 ≤ a ∧ a ≤ 246) → vI (ys Y1) a t' = vI (ys Y) a t' := fun a y => f.2.2.1 a t' (by unfold wrT; omega)
    rw [g 226 (by omega)] at z1
    rw [g 227 (by omega)] at z2
    exact ⟨⟨z1, z2⟩, fun a y => g a (by omega)⟩)
theorem hd_dt (h : hdW N Y t) : hdW N (setW Y (dtW t (yw Y))) t := h
theorem rf_269 (r : Nat) : yv (rfY m own t Y) 269 r = yv Y 269 r := by
  unfold rfY
  by_cases c : yv Y 241 t < yv Y 242 t
  · rw [if_pos c]; exact clS_ne (by omega) (by omega)
  · rw [if_neg c]; exact lk_v (by decide)
theorem br_269 (r : Nat) : yv (brY m own t Y) 269 r = yv Y 269 r := by
  unfold brY
  rw [rf_269]
  show vI (st2 (st2 (ys Y) 241 t _) 242 t 0) 269 r = _
  rw [vI_ne (by omega), vI_ne (by omega)]
theorem nxt_269 (r : Nat) : yv (nxtY m own Lb t Y) 269 r = yv Y 269 r := by
  unfold nxtY
  by_cases c : (yv Y 244 t + 1).toNat < (pbT (yv Y 243 t).toNat (Lb (yp Y t))).length
  · rw [if_pos c, lk_v (by decide)]; exact vI_ne (by omega)
  · rw [if_neg c]
    show vI (clS t _ (st2 (ys Y) 244 t (-1))) 269 r = _
    rw [clS_ne (by omega) (by omega)]; exact vI_ne (by omega)
theorem nxt_230 (h : yv (nxtY m own Lb t Y) 226 t ≠ 0) : yv (nxtY m own Lb t Y) 230 t = 1 := by
  unfold nxtY at h ⊢
  by_cases c : (yv Y 244 t + 1).toNat < (pbT (yv Y 243 t).toNat (Lb (yp Y t))).length
  · rw [if_pos c]; exact lk_1
  · rw [if_neg c] at h; exact absurd clS_0 h
theorem ckE_t {α : Type} {c a : Nat} {x y : Option α} (h : (kd M a).1 = c) : ckE c (a : Int) M x y = x := by
  unfold ckE
  exact if_pos ⟨by omega, by rw [Int.toNat_natCast]; exact h⟩
theorem ckE_f {α : Type} {c a : Nat} {x y : Option α} (h : (kd M a).1 ≠ c) : ckE c (a : Int) M x y = y := by
  unfold ckE
  exact if_neg (fun z => h (by have := z.2; rw [Int.toNat_natCast] at this; exact this))
theorem c_goOn (hB : bdg N ev oth) (hal : al ≤ 8) (ht : t < 12 + N) (hN : 12 + N ≤ 44) : ∀ (n : Nat) (M : MM) (Y : Ys) (h : Gh) (lf : Nat → Nat) (eg : EG) (mn sto : Nat → Int) (fa : Nat → Nat) (fu : Nat), CQ M m al N pa own sd ps sn pu rf tm lf b0 eg tk pb as nb mn fa Lb LA dn sto Y h → yv Y 226 t ≠ 0 → yv Y 230 t = 1 → yv Y 227 t ≠ 3 → RunP (fun Y => LI N own Lb Y t ∧ sdY m N own tm Lb ev Y) m al N own sd tm Lb t n Y → mu own Y t < n → 66 * mu own Y t + 66 < fu → lf t + 2 * mu own Y t + 4 < 2147483648 →
    ∃ M' h' lf' eg' mn' sto' fa' b0', lpN (fun s : Int × MM => b_X11_goOn_2 ((wa pa t : Nat) : Int) s.1 s.2) fu (1, M) = some M' ∧ CQ M' m al N pa own sd ps sn pu rf tm lf' b0' eg' tk pb as nb mn' fa' Lb LA dn sto' (prY m al N own sd tm Lb t n Y) h' ∧ FK F8 M M' ∧ (∀ z, z ≠ t → lf' z = lf z) ∧ lf t ≤ lf' t ∧ lf' t + 2 * mu own (prY m al N own sd tm Lb t n Y) t ≤ lf t + 2 * mu own Y t ∧ BS b0 b0' (prY m al N own sd tm Lb t n Y) t := by
  intro n
  induction n using Nat.strongRecOn with
  | _ n ih =>
  intro M Y h lf eg mn sto fa fu hQ hgo h1 hk3 hR hmu hfu hlf
  obtain ⟨n, rfl⟩ : ∃ k, n = k + 1 := ⟨n - 1, by omega⟩
  obtain ⟨⟨hLI, hsd⟩, hR⟩ := hR
  obtain ⟨hR1, _, _⟩ := hR hgo
  obtain ⟨⟨hLI1, hsd1⟩, hRb⟩ := hR1 h1
  obtain ⟨hC, hPub, hLb, hrec, hmn, hst⟩ := hQ
  obtain ⟨hh, hk⟩ := wOK_hd hLI.1 hgo
  have pN := yp_lt hh
  have hrc := rc_ok hrec hh
  have t44 : t < 44 := by omega
  have hm := hsd.2.2.2.2
  have epr : prY m al N own sd tm Lb t (n + 1) Y = if (lokY m al N own sd tm t Y).1 = true then prY m al N own sd tm Lb t n (behY m N own sd tm Lb t (lokY m al N own sd tm t Y).2) else (lokY m al N own sd tm t Y).2 := by
    rw [prY, if_neg hgo, if_pos h1]
  obtain ⟨M1, h', c1, c2, c3, c4⟩ := c_lok (fu := fu) hB hm hal ht hgo pN hrc (by omega) hsd t44 hC
  obtain ⟨YL, hYL⟩ : ∃ YL, YL = (lokY m al N own sd tm t Y).2 := ⟨_, rfl⟩
  have fL : FT t Y YL := by rw [hYL]; exact FT_lok
  have vL : ∀ a i, a ≠ 268 → yv YL a i = yv Y a i := fun a i z => by rw [hYL]; exact lok_v z
  have muL : mu own YL t = mu own Y t := by rw [hYL]; exact (wOK_lok hLI.1 hgo h1).2
  rw [← hYL] at c1 c4 hRb hLI1 hsd1 epr
  have hu := hC.2.1.1
  have goL : yv YL 226 t ≠ 0 := by rw [vL _ _ (by decide)]; exact hgo
  have PubL : PubsC M1 (12 + N) pb Lb LA sto (ys YL) := Pubs_sc (Pubs_fk c2 hu (by decide) hPub) (fun t' _ z1 z2 => by
    have g : ∀ a, a ≠ 268 → vI (ys YL) a t' = vI (ys Y) a t' := fun a z => vL a t' z
    rw [g _ (by decide)] at z1 z2
    exact ⟨⟨z1, z2⟩, fun a y => g a (by omega)⟩)
  have LibL := Libs_fk c2 hu (by decide) hLb
  have recL : recY nb YL := rec_ft hrec fL (fun _ => hgo)
  have mnL : ∀ r, r < nb → mn r = yv YL 269 r := fun r hr => by rw [vL _ _ (by decide)]; exact hmn r hr
  have stL : ∀ t, t < 12 → yv YL 226 t ≠ 0 → yv YL 227 t = 2 → sto t = yv YL 269 (yv YL 229 t).toNat := fun t' h12 z1 z2 => by
    rw [vL _ _ (by decide)] at z1 z2
    rw [vL _ _ (by decide), vL _ _ (by decide)]
    exact hst t' h12 z1 z2
  have b28 : ∀ (Z : Ys), (t < 12 ∨ yv YL 229 t < 0) := fun _ => by
    by_cases c : t < 12
    · exact Or.inl c
    · have := (hh.2.2.2 (by omega)).1
      exact Or.inr (by rw [vL _ _ (by decide)]; omega)
  have b28 := b28 Y
  cases hb : (lokY m al N own sd tm t Y).1 with
  | false =>
    rw [hb] at epr
    rw [if_neg (by decide)] at epr
    rw [epr]
    exact ⟨M1, h', lf, eg, mn, sto, fa, b0, c3 hb, ⟨c1, PubL, LibL, recL, mnL, stL⟩, c2.mono F5_8, fun _ _ => rfl, Nat.le_refl _, by omega, Or.inl rfl⟩
  | true =>
    rw [hb] at epr
    rw [if_pos rfl] at epr
    rw [epr]
    obtain ⟨hall, fu', hf1, hf2, hf3⟩ := c4 hb
    rw [hf3]
    have hRb := hRb hb
    obtain ⟨fu2, hfu2⟩ : ∃ f, fu' = f + 1 := ⟨fu' - 1, by omega⟩
    have h1L : yv YL 230 t = 1 := by rw [vL _ _ (by decide)]; exact h1
    have hhL := (wOK_hd hLI1.1 goL).1
    obtain ⟨_, muB⟩ := LI_beh (sd := sd) hsd1 t44 hLI1.1 goL h1L
    have ftB : FT t YL (behY m N own sd tm Lb t YL) := FT_beh0 hLI1.1 goL h1L
    have hkB : yv (behY m N own sd tm Lb t YL) 227 t = yv Y 227 t := ftB.2.2.2.1.1.trans fL.2.2.2.1.1
    -- a life more
    obtain ⟨C2, f2⟩ := c_life (t := t) c1 ht (by omega)
    obtain ⟨Y2, hY2⟩ : ∃ Y2, Y2 = setW YL (dtW t (yw YL)) := ⟨_, rfl⟩
    rw [← hY2] at C2
    have v2 : ∀ a i, yv Y2 a i = yv YL a i := fun a i => by rw [hY2]; rfl
    have hd2 : dtW t (yw Y2) = yw Y2 := by rw [hY2]; exact dtW_dtW
    have eb : behY m N own sd tm Lb t Y2 = behY m N own sd tm Lb t YL := by rw [hY2]; exact beh_dt
    have hh2 : hdW N Y2 t := by rw [hY2]; exact hhL
    have ok2 : okW N own tm (yw Y2) := by rw [hY2]; exact ok_dt hsd1.1
    have hu1 := c1.2.1.1
    obtain ⟨M2, hM2⟩ : ∃ M2, M2 = sI M1 (wa pa t) 5 ((lf t : Int) + 1) := ⟨_, rfl⟩
    rw [← hM2] at C2 f2
    have rec2 : recY nb Y2 := by rw [hY2]; exact recL
    have Pub2 : PubsC M2 (12 + N) pb Lb LA sto (ys Y2) := by rw [hY2]; exact Pubs_fk f2 hu1 (by decide) PubL
    have Lib2 := Libs_fk f2 hu1 (by decide) LibL
    have lf1 : (fup lf t (lf t + 1)) t = lf t + 1 := fup_eq
    obtain ⟨w1, w2, w3, w4, w5⟩ := c1.2.1.2.2.1 t ht
    have k15 : (kd M1 (wa pa t + 5)).1 = 15 := by rw [w2.1.1]
    have hov : f_X15_isOver ((wa pa t + 5 : Nat) : Int) M1 = some (b2i true) := by rw [c_isOver w2 hm, hall]
    have k112 : (kd M2 (wa pa t)).1 = 11 := by rw [hM2, kd_sI]; exact w1.1
    have go2 : yv Y2 226 t ≠ 0 := by rw [v2]; exact goL
    obtain ⟨g1, g2, g3, g4, g5, g6⟩ := (C2.2.2.1 t ht).2.2.2 go2
    have k2' : vI (ys Y2) 227 t = yv Y 227 t := (v2 227 t).trans (vL _ _ (by decide))
    -- the body up to the plan
    have body : ∀ pl : Nat, rR M2 (wa pa t) 3 = (pl : Int) → b_X11_goOn_2 ((wa pa t : Nat) : Int) 1 M1 = ckE 13 (pl : Int) M2 (Option.bind (f_X13_looked (pl : Int) ((wa pa t : Nat) : Int) M2) fun r => j_X11_goOn_34 ((wa pa t : Nat) : Int) r.1 r.2) (ckE 14 (pl : Int) M2 (Option.bind (f_X14_looked (pl : Int) ((wa pa t : Nat) : Int) M2) fun r => j_X11_goOn_34 ((wa pa t : Nat) : Int) r.1 r.2) (ckE 30 (pl : Int) M2 (Option.bind (f_X30_looked (pl : Int) ((wa pa t : Nat) : Int) M2) fun r => j_X11_goOn_34 ((wa pa t : Nat) : Int) r.1 r.2) (ckE 31 (pl : Int) M2 (Option.bind (f_X31_looked (pl : Int) ((wa pa t : Nat) : Int) M2) fun r => j_X11_goOn_34 ((wa pa t : Nat) : Int) r.1 r.2) (none)))) := fun pl hpl => by
      unfold b_X11_goOn_2
      rw [if_neg (by decide), gfr_e w1.1, w1.2.1.2.1, Option.bind_some, ck_e k15, hov, Option.bind_some, if_neg (by decide), gfi_e w1.1, w5, Option.bind_some, pfi_e w1.1, Option.bind_some, ← hM2, gfr_e k112, hpl, Option.bind_some]
    -- what comes of it
    have fin : ∀ M3, lpN (fun s : Int × MM => b_X11_goOn_2 ((wa pa t : Nat) : Int) s.1 s.2) (fu2 + 1) (0, M3) = some M3 := fun M3 => lpN_end (by omega) (by
      show b_X11_goOn_2 ((wa pa t : Nat) : Int) 0 M3 = _
      unfold b_X11_goOn_2
      rw [if_pos (by decide)])
    have fk12 : FK F8 M M2 := FK.trans (c2.mono F5_8) (f2.mono (mo1 rfl))
    -- a state to go on from: closed, or a lookup
    have next : ∀ (k : Nat) (M3 : MM) (Y3 : Ys) (h3 : Gh) (lf3 : Nat → Nat) (eg3 : EG) (mn3 sto3 : Nat → Int) (fa3 : Nat → Nat) (b3 : Nat × Nat) (x : Int), k < n + 1 → b_X11_goOn_2 ((wa pa t : Nat) : Int) 1 M1 = some (.inl (x, M3)) → CQ M3 m al N pa own sd ps sn pu rf tm lf3 b3 eg3 tk pb as nb mn3 fa3 Lb LA dn sto3 Y3 h3 → FK F8 M2 M3 → LfS t 1 (fup lf t (lf t + 1)) lf3 → mu own Y3 t < mu own Y t → RunP (fun Y => LI N own Lb Y t ∧ sdY m N own tm Lb ev Y) m al N own sd tm Lb t k Y3 → mu own Y3 t < k → ((x = 0 ∧ yv Y3 226 t = 0 ∧ BS b0 b3 Y3 t) ∨ (x = 1 ∧ b3 = b0 ∧ yv Y3 226 t ≠ 0 ∧ yv Y3 230 t = 1 ∧ yv Y3 227 t ≠ 3)) → ∃ M' h' lf' eg' mn' sto' fa' b0', lpN (fun s : Int × MM => b_X11_goOn_2 ((wa pa t : Nat) : Int) s.1 s.2) fu' (1, M1) = some M' ∧ CQ M' m al N pa own sd ps sn pu rf tm lf' b0' eg' tk pb as nb mn' fa' Lb LA dn sto' (prY m al N own sd tm Lb t k Y3) h' ∧ FK F8 M M' ∧ (∀ z, z ≠ t → lf' z = lf z) ∧ lf t ≤ lf' t ∧ lf' t + 2 * mu own (prY m al N own sd tm Lb t k Y3) t ≤ lf t + 2 * mu own Y t ∧ BS b0 b0' (prY m al N own sd tm Lb t k Y3) t := fun k M3 Y3 h3 lf3 eg3 mn3 sto3 fa3 b3 x hk eB hq hf hl hmu3 hr3 hmk hx => by
      have hl2 := hl.2
      rw [lf1] at hl2
      have hlz : ∀ z, z ≠ t → lf3 z = lf z := fun z hz => (hl.1 z hz).trans (fup_ne hz)
      rw [hfu2, lpN_cnt (b := fun s : Int × MM => b_X11_goOn_2 ((wa pa t : Nat) : Int) s.1 s.2) (s := (1, M1)) eB]
      obtain ⟨k', rfl⟩ : ∃ k', k = k' + 1 := ⟨k - 1, by omega⟩
      rcases hx with ⟨x0, x1, x2⟩ | ⟨x0, x1, x2, x3, x4⟩
      · rw [x0, pr_0 x1]
        refine ⟨M3, h3, lf3, eg3, mn3, sto3, fa3, b3, ?_, hq, FK.trans fk12 hf, hlz, by omega, by omega, x2⟩
        refine lpN_end (by omega) ?_
        show b_X11_goOn_2 ((wa pa t : Nat) : Int) 0 M3 = _
        unfold b_X11_goOn_2
        rw [if_pos (by decide)]
      · rw [x0]
        rw [x1] at hq
        obtain ⟨M', h', lf', eg', mn', sto', fa', b0', r1, r2, r3, r4, r5, r6, r7⟩ := ih (k' + 1) hk M3 Y3 h3 lf3 eg3 mn3 sto3 fa3 fu2 hq x2 x3 x4 hr3 hmk (by omega) (by omega)
        exact ⟨M', h', lf', eg', mn', sto', fa', b0', r1, r2, FK.trans (FK.trans fk12 hf) r3, fun z hz => (r4 z hz).trans (hlz z hz), by omega, by omega, r7⟩
    obtain ⟨YB, hYB⟩ : ∃ YB, YB = behY m N own sd tm Lb t YL := ⟨_, rfl⟩
    rw [← hYB] at eb ftB hkB hRb muB ⊢
    have ft2 : FT t Y2 YB := by
      have f0 : FT t Y2 YL := by rw [hY2]; exact ⟨fun p t' z => (rqv_dt z).symm, fun _ _ => rfl, .refl, ⟨rfl, rfl, rfl⟩, .refl⟩
      exact f0.trans ftB
    have muk : mu own YB t < n := by omega
    have n1 : n < n + 1 := by omega
    rcases hk with ⟨k1, k2, k3, k4, k5⟩ | ⟨k1, k2, k3⟩ | ⟨k1, k2, k3, k4, k5, k6, k7⟩ | ⟨k1, k2, k3, k4, k5⟩
    · -- joining
      have hk2 : yv Y2 227 t = 0 ∨ yv Y2 227 t = 4 := by rw [v2, vL _ _ (by decide)]; exact k1
      have hok := (hsd1.2.2.2.1 (yp Y2 t) (by have := hsd.1.2.2.1; have := yp_lt hh2; omega)).1
      obtain ⟨M3, lf3, eg3, x, r1, r2, r3, r4, r5⟩ := c_looked13 (sd := sd) (Lb := Lb) C2 ok2 (fun x hx => by
        have hx : x ∈ wT (yw YL) (yp Y2 t) := by rw [hY2] at hx ⊢; exact hx
        exact ⟨(hok.2.2 x hx).1, (hok.2.2 x hx).2.2⟩) rec2 hh2 ht (by rw [lf1]; omega) hk2 (fun z => by rw [v2, vL _ _ (by decide)] at z ⊢; rw [v2, vL _ _ (by decide)]; exact k5 z) hd2
      rw [eb] at r2 r5
      have hu2 := C2.2.1.1
      have nk : yv Y2 227 t ≠ 2 := by omega
      have Pub3 : PubsC M3 (12 + N) pb Lb LA sto (ys YB) := Pubs_ft (Pubs_fk r3 hu2 (by decide) Pub2) nk ft2
      have q9 : ∀ r, yv YB 269 r = yv Y2 269 r := fun r => by
        rw [← eb]
        unfold behY
        rw [if_pos hk2]
        by_cases c : yv Y2 242 t < 0
        · rw [if_pos c]; exact br_269 r
        · rw [if_neg c]
          rw [rf_269 r]; exact vI_ne (by omega)
      have mn3 : ∀ r, r < nb → mn r = yv YB 269 r := fun r hr => by rw [q9, v2]; exact mnL r hr
      have st3 : ∀ t, t < 12 → yv YB 226 t ≠ 0 → yv YB 227 t = 2 → sto t = yv YB 269 (yv YB 229 t).toNat := fun t' h12 z1 z2 => by
        by_cases e : t' = t
        · rw [e] at z2; rw [hkB] at z2; omega
        · exact sto_ft (Y := Y2) (fun t h12 z1 z2 => by rw [v2] at z1 z2; rw [v2, v2]; exact stL t h12 z1 z2) rec2 go2 ft2 (by rw [v2]; exact b28) t' e h12 z1 z2
      have Q3 : CQ M3 m al N pa own sd ps sn pu rf tm lf3 b0 eg3 tk pb as nb mn fa Lb LA dn sto YB h' := ⟨r2, Pub3, Libs_fk r3 hu2 (by decide) Lib2, rec_ft rec2 ft2 (fun _ => go2), mn3, st3⟩
      have pl := (g3 (by rw [k2']; exact k1)).1
      have eB : b_X11_goOn_2 ((wa pa t : Nat) : Int) 1 M1 = some (.inl (x, M3)) := by
        rw [body (wa pa t + 3) pl, ckE_t (by rw [hM2, kd_sI, w1.2.2.2.2.1]), r1]
        rfl
      have hwB : wOK N own Lb YB t := by
        obtain ⟨k', rfl⟩ : ∃ k', n = k' + 1 := ⟨n - 1, by omega⟩
        exact hRb.1.1.1
      refine next n M3 YB h' lf3 eg3 mn sto fa b0 x n1 eB Q3 (r3.mono FJ_8) r4 (by omega) hRb muk ?_
      by_cases c : yv YB 226 t = 0
      · left
        exact ⟨by rw [r5, decide_eq_false (fun z => z c)]; rfl, c, Or.inl rfl⟩
      · right
        refine ⟨by rw [r5, decide_eq_true c]; rfl, rfl, c, ?_, by rw [hkB]; exact hk3⟩
        have := (wOK_hd hwB c).2
        unfold kOK at this
        omega
    · -- looking
      have t12 := k3
      obtain ⟨M3, mn3, fa3, r1, r2, r3, r4, r5⟩ := c_looked14 (sd := sd) (tm := tm) (Lb := Lb) C2 hm rec2 hh2 t12 (by rw [lf1]; omega) (by rw [v2, vL _ _ (by decide)]; exact k1)
      rw [eb] at r2 r4
      have hu2 := C2.2.1.1
      have nk : yv Y2 227 t ≠ 2 := by rw [v2, vL _ _ (by decide)]; omega
      have Pub3 : PubsC M3 (12 + N) pb Lb LA sto (ys YB) := Pubs_ft (Pubs_fk r3 hu2 (by decide) Pub2) nk ft2
      have rc12 := (rec2.2 t t12 go2).1
      have q9 : yv YB 269 (yv Y2 229 t).toNat = (((frontE m (yl Y2 t).2.2.1).length : Nat) : Int) := by
        rw [← eb]
        unfold behY
        rw [if_neg (by rw [v2, vL _ _ (by decide)]; omega), if_pos (by rw [v2, vL _ _ (by decide)]; exact k1)]
        unfold tlY
        show vI (clS t 1 (st2 (ys Y2) 269 (yv Y2 229 t).toNat _)) 269 _ = _
        rw [clS_ne (by omega) (by omega), vI_eq rfl]
        have := front_len (m := m) (yl Y2 t).2.2.1 hm.2
        exact w32s (by omega)
      have mn3' : ∀ r, r < nb → mn3 r = yv YB 269 r := fun r hr => by
        rw [r5]
        unfold fup
        by_cases c : r = (yv Y2 229 t).toNat
        · rw [if_pos c, c, q9]
        · rw [if_neg c]
          exact mn_ft ft2 (fun r hr => by rw [v2]; exact mnL r hr) r hr (fun z => c z.2)
      have st3 : ∀ t, t < 12 → yv YB 226 t ≠ 0 → yv YB 227 t = 2 → sto t = yv YB 269 (yv YB 229 t).toNat := fun t' h12 z1 z2 => by
        by_cases e : t' = t
        · rw [e] at z2; rw [hkB] at z2; omega
        · exact sto_ft (Y := Y2) (fun t h12 z1 z2 => by rw [v2] at z1 z2; rw [v2, v2]; exact stL t h12 z1 z2) rec2 go2 ft2 (by rw [v2]; exact b28) t' e h12 z1 z2
      have Q3 : CQ M3 m al N pa own sd ps sn pu rf tm (fup (fup lf t (lf t + 1)) t ((fup lf t (lf t + 1)) t + 1)) (b0.1 + 1, b0.2 + 180) eg tk pb as nb mn3 fa3 Lb LA dn sto YB h' := ⟨r2, Pub3, Libs_fk r3 hu2 (by decide) Lib2, rec_ft rec2 ft2 (fun _ => go2), mn3', st3⟩
      have pl := g4 (by rw [k2']; exact k1)
      have k14 : kd M2 (wa pa t + 4) = (14, 15) := by rw [hM2, kd_sI]; exact w1.2.2.2.2.2
      have eB : b_X11_goOn_2 ((wa pa t : Nat) : Int) 1 M1 = some (.inl (0, M3)) := by
        rw [body (wa pa t + 4) pl, ckE_f (by rw [k14]; decide), ckE_t (by rw [k14]), r1]
        rfl
      exact next n M3 YB h' _ eg mn3 sto fa3 _ 0 n1 eB Q3 (r3.mono FJ_8) LfS_1 (by omega) hRb muk (Or.inl ⟨rfl, r4, Or.inr ⟨rfl, r4, t12⟩⟩)
    · -- publishing
      obtain ⟨P, hPt⟩ : ∃ P, pb t = some P := by
        have := (g5 (by rw [k2']; exact k1)).2
        cases hp : pb t with
        | none => exact absurd hp this
        | some P => exact ⟨P, rfl⟩
      have hpl : rR M2 (wa pa t) 3 = (P : Int) := by
        have := (g5 (by rw [k2']; exact k1)).1
        rw [hPt] at this; exact this
      have eS : stoY m N own sd tm Lb t Y2 = YB := by
        rw [← eb]
        unfold behY
        rw [if_neg (by rw [v2, vL _ _ (by decide)]; omega), if_neg (by rw [v2, vL _ _ (by decide)]; omega), if_pos (by rw [v2, vL _ _ (by decide)]; exact k1)]
      obtain ⟨n', hn'⟩ : ∃ n', n = n' + 1 := ⟨n - 1, by omega⟩
      rw [hn'] at hRb
      have hLB := hRb.1
      have sd2 : sdY m N own tm Lb ev Y2 := by rw [hY2]; exact ⟨ok_dt hsd1.1, ev_dt hsd1.2.1, hsd1.2.2⟩
      have v43 : yv Y2 243 t = yv Y 243 t := (v2 _ _).trans (vL _ _ (by decide))
      have v44 : yv Y2 244 t = yv Y 244 t := (v2 _ _).trans (vL _ _ (by decide))
      have v46 : yv Y2 246 t = yv Y 246 t := (v2 _ _).trans (vL _ _ (by decide))
      have v2p : yp Y2 t = yp Y t := (show yp Y2 t = yp YL t from by rw [hY2]; rfl).trans (FT_p fL)
      obtain ⟨M3, lf3, eg3, h3, x, sto3, r1, ⟨r2, r3, r4⟩, r5, r6, r7, r8, r9⟩ := c_looked30 (sd := sd) (P := P) C2 Pub2 Lib2 sd2 hB rec2 hh2 ht (by rw [lf1]; omega) (by rw [v2, vL _ _ (by decide)]; exact k1) (by rw [v2]; exact h1L) (by rw [v43]; exact k3) (by rw [v44]; exact k4) (by rw [v43, v44, v2p]; exact k5) (by rw [v46]; exact k6) hPt (fun z => by
        by_cases c : t < 12
        · rw [v2] at z ⊢
          have := stL t c goL (by rw [vL _ _ (by decide)]; exact k1)
          rw [v2]; exact this
        · have := (hh2.2.2.2 (by omega)).1; omega) hd2 (by rw [eS]; exact hLB.1.1) hN
      rw [eS] at r2 r3 r7 r8
      have hu2 := C2.2.1.1
      have goB : yv YB 226 t ≠ 0 := by
        rw [← eS]
        have : yv (stoY m N own sd tm Lb t Y2) 226 t = yv Y2 226 t := by
          show vI ((frontE m (yl Y2 t).2.2.1).foldl (stoN N own sd tm t (yp Y2 t) (yv Y2 243 t).toNat (trY Lb t Y2)) (dtW t (yw Y2), st2 (st2 (ys Y2) 230 t 2) 245 t 0)).2 226 t = _
          rw [stoF_ne (s := (dtW t (yw Y2), st2 (st2 (ys Y2) 230 t 2) 245 t 0)) (by omega)]
          show vI (st2 (st2 (ys Y2) 230 t 2) 245 t 0) 226 t = _
          rw [vI_ne (by omega), vI_ne (by omega)]
        rw [this]; exact go2
      have kB2 : yv YB 227 t = 2 := by rw [hkB]; exact k1
      have g30 : yv YB 230 t = 2 := by
        rw [← eS]
        show vI ((frontE m (yl Y2 t).2.2.1).foldl (stoN N own sd tm t (yp Y2 t) (yv Y2 243 t).toNat (trY Lb t Y2)) (dtW t (yw Y2), st2 (st2 (ys Y2) 230 t 2) 245 t 0)).2 230 t = _
        rw [stoF_ne (s := (dtW t (yw Y2), st2 (st2 (ys Y2) 230 t 2) 245 t 0)) (by omega)]
        show vI (st2 (st2 (ys Y2) 230 t 2) 245 t 0) 230 t = _
        rw [vI_ne (by omega), vI_eq rfl]; rfl
      have k30 : (kd M2 P).1 = 30 := by rw [(Pub2.1 t ht P hPt).1.1]
      have eB : b_X11_goOn_2 ((wa pa t : Nat) : Int) 1 M1 = some (.inl (x, M3)) := by
        rw [body P hpl, ckE_f (by rw [k30]; decide), ckE_f (by rw [k30]; decide), ckE_t k30, r1]
        rfl
      -- what is told of it
      have mnB : ∀ (Y3 : Ys), (∀ r, yv Y3 269 r = yv YB 269 r) → ∀ r, r < nb → mnU (yv Y2 229 t) (sto3 t) mn r = yv Y3 269 r := fun Y3 e9 r hr => by
        rw [e9]
        have base := mn_ft (mn := mn) ft2 (fun r hr => by rw [v2]; exact mnL r hr) r hr
        unfold mnU
        by_cases c : yv Y2 229 t < 0
        · rw [if_pos c]; exact base (by omega)
        · rw [if_neg c]
          unfold fup
          by_cases d : r = (yv Y2 229 t).toNat
          · rw [if_pos d, d]; exact r8 (by omega)
          · rw [if_neg d]; exact base (fun z => d z.2)
      have stB : ∀ (Y3 : Ys), FT t YB Y3 → (∀ r, yv Y3 269 r = yv YB 269 r) → ∀ t, t < 12 → yv Y3 226 t ≠ 0 → yv Y3 227 t = 2 → sto3 t = yv Y3 269 (yv Y3 229 t).toNat := fun Y3 f3 e9 t' h12 z1 z2 => by
        by_cases e : t' = t
        · rw [e] at h12 ⊢
          rw [e9, f3.2.2.2.1.2.2, ft2.2.2.2.1.2.2]
          exact r8 ((rec2.2 t h12 go2).1.1)
        · rw [r9 t' e]
          exact sto_ft (Y := Y2) (fun t h12 z1 z2 => by rw [v2] at z1 z2; rw [v2, v2]; exact stL t h12 z1 z2) rec2 go2 (ft2.trans f3) (by rw [v2]; exact b28) t' e h12 z1 z2
      have recB : recY nb YB := rec_ft rec2 ft2 (fun _ => go2)
      by_cases c : yv YB 245 t = 0
      · rw [if_pos c] at r2 r3 r7
        have hRn := (hRb.2 goB).2.1 g30 c
        obtain ⟨_, muN⟩ := LI_nxt hLB.2 t44 hLB.1.1 goB g30
        have fN : FT t YB (nxtY m own Lb t YB) := FT_nxt
        have e9 : ∀ r, yv (nxtY m own Lb t YB) 269 r = yv YB 269 r := nxt_269
        have epr2 : prY m al N own sd tm Lb t n YB = prY m al N own sd tm Lb t n' (nxtY m own Lb t YB) := by
          rw [hn', prY, if_neg goB, if_neg (by rw [g30]; decide), if_pos g30, if_pos c]
        rw [epr2]
        have Q3 : CQ M3 m al N pa own sd ps sn pu rf tm lf3 b0 eg3 tk pb as nb (mnU (yv Y2 229 t) (sto3 t) mn) fa Lb LA dn sto3 (nxtY m own Lb t YB) h3 := ⟨r2, r3, r4, rec_ft recB fN (fun _ => goB), mnB _ e9, stB _ fN e9⟩
        refine next n' M3 _ h3 lf3 eg3 _ sto3 fa b0 x (by omega) eB Q3 r5 r6 (by omega) hRn (by omega) ?_
        by_cases d : yv (nxtY m own Lb t YB) 226 t = 0
        · left
          exact ⟨by rw [r7, decide_eq_false (fun z => z d)]; rfl, d, Or.inl rfl⟩
        · right
          obtain ⟨n'', hn''⟩ : ∃ n'', n' = n'' + 1 := ⟨n' - 1, by omega⟩
          rw [hn''] at hRn
          have := (wOK_hd hRn.1.1.1 d).2
          have kk : yv (nxtY m own Lb t YB) 227 t = 2 := fN.2.2.2.1.1.trans kB2
          have nz := hRn.1.1.2 d
          refine ⟨by rw [r7, decide_eq_true d]; rfl, rfl, d, nxt_230 d, by rw [kk]; decide⟩
      · rw [if_neg c] at r2 r3 r7
        have epr2 : prY m al N own sd tm Lb t n YB = YB := by
          rw [hn', prY, if_neg goB, if_neg (by rw [g30]; decide), if_pos g30, if_neg c]
        rw [epr2, hfu2, lpN_cnt (b := fun s : Int × MM => b_X11_goOn_2 ((wa pa t : Nat) : Int) s.1 s.2) (s := (1, M1)) eB, r7]
        have hl2 := r6.2
        rw [lf1] at hl2
        refine ⟨M3, h3, lf3, eg3, _, sto3, fa, b0, ?_, ⟨r2, r3, r4, recB, mnB _ (fun _ => rfl), stB _ .refl (fun _ => rfl)⟩, FK.trans fk12 r5, fun z hz => (r6.1 z hz).trans (fup_ne hz), by omega, by omega, Or.inl rfl⟩
        refine lpN_end (by omega) ?_
        show b_X11_goOn_2 ((wa pa t : Nat) : Int) 0 M3 = _
        unfold b_X11_goOn_2
        rw [if_pos (by decide)]
    · exact absurd k1 hk3
end CGOON
