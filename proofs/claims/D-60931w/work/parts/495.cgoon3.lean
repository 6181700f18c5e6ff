/-! queries of the class go on -/
def QR (r : Option MM) (M : MM) (m al N : Nat) (pa : Nat → Nat) (own : Nat → Ky) (sd ps sn pu rf : Nat → Int) (tm : Int) (lf : Nat → Nat) (b0 : Nat × Nat) (tk : Nat → Nat) (pb as : Nat → Option Nat) (nb Q t : Nat) (Y Y' : Ys) : Prop :=
  ∃ M' h' lf' eg' mn' fa' b0', r = some M' ∧ CB M' m al N pa own sd ps sn pu rf tm lf' b0' eg' tk pb as nb mn' fa' Y' h' ∧ XR Q M M' ∧ (yv Y' 226 t ≠ 0 → AsF M' Q (ys Y') (yq Y') t) ∧ ((∀ z, z ≠ t → lf' z = lf z) ∧ lf t ≤ lf' t ∧ lf' t + 2 * mu own Y' t ≤ lf t + 2 * mu own Y t + 1) ∧ (∀ r, r < nb → mn' r = yv Y' 269 r) ∧ BS b0 b0' Y' t
section CGOON3
variable {S : Nat → Bool} {M M1 M2 : MM} {m al N p t nb n Q pk k oth : Nat} {pa tk : Nat → Nat} {own : Nat → Ky} {sd ps sn pu rf : Nat → Int} {tm how : Int} {lf : Nat → Nat} {b0 : Nat × Nat} {h : Gh} {eg : EG} {pb as : Nat → Option Nat} {mn : Nat → Int} {fa : Nat → Nat} {Y Y1 Yf : Ys} {l l' : List Int} {Lb : Nat → List Trm} {ev : Nat → Nat} {r : Option MM}
/-- what a run leaves alone, and that it comes nearer to its end -/
theorem run_ft (ht : t < 44) : ∀ (n : Nat) (Y : Ys), RunP (fun Y => LI N own Lb Y t ∧ sdY m N own tm Lb ev Y) m al N own sd tm Lb t n Y → FT t Y (prY m al N own sd tm Lb t n Y) ∧ mu own (prY m al N own sd tm Lb t n Y) t ≤ mu own Y t ∧ (yv Y 226 t = 0 → yv (prY m al N own sd tm Lb t n Y) 226 t = 0) := by
  intro n
  induction n with
  | zero => intro Y hR; exact hR.elim
  | succ n ih =>
    intro Y hR
    obtain ⟨⟨hLI, hsd⟩, hR⟩ := hR
    by_cases g : yv Y 226 t = 0
    · rw [pr_0 g]; exact ⟨.refl, Nat.le_refl _, fun z => z⟩
    · obtain ⟨hR1, hR2, hR3⟩ := hR g
      have ep : prY m al N own sd tm Lb t (n + 1) Y = if yv Y 230 t = 1 then (if (lokY m al N own sd tm t Y).1 = true then prY m al N own sd tm Lb t n (behY m N own sd tm Lb t (lokY m al N own sd tm t Y).2) else (lokY m al N own sd tm t Y).2) else if yv Y 230 t = 2 then (if yv Y 245 t = 0 then prY m al N own sd tm Lb t n (nxtY m own Lb t Y) else Y) else (if (qonY N own sd tm t Y).1 = true then prY m al N own sd tm Lb t n (qonY N own sd tm t Y).2 else (qonY N own sd tm t Y).2) := by
        conv => lhs; unfold prY
        rw [if_neg g]
      rw [ep]
      by_cases c1 : yv Y 230 t = 1
      · rw [if_pos c1]
        obtain ⟨⟨LI1, sd1⟩, hRb⟩ := hR1 c1
        obtain ⟨_, mL⟩ := wOK_lok (m := m) (al := al) (sd := sd) (tm := tm) hLI.1 g c1
        have fL : FT t Y (lokY m al N own sd tm t Y).2 := FT_lok
        cases hb : (lokY m al N own sd tm t Y).1 with
        | false => rw [if_neg Bool.false_ne_true]; exact ⟨fL, by omega, fun z => absurd z g⟩
        | true =>
          rw [if_pos rfl]
          have gL : yv (lokY m al N own sd tm t Y).2 226 t ≠ 0 := by rw [lok_v (by decide)]; exact g
          have sL : yv (lokY m al N own sd tm t Y).2 230 t = 1 := by rw [lok_v (by decide)]; exact c1
          obtain ⟨_, mB⟩ := LI_beh (sd := sd) sd1 ht LI1.1 gL sL
          obtain ⟨f2, m2, _⟩ := ih _ (hRb hb)
          exact ⟨fL.trans ((FT_beh0 LI1.1 gL sL).trans f2), by omega, fun z => absurd z g⟩
      · rw [if_neg c1]
        by_cases c2 : yv Y 230 t = 2
        · rw [if_pos c2]
          by_cases c5 : yv Y 245 t = 0
          · rw [if_pos c5]
            obtain ⟨_, mB⟩ := LI_nxt hsd ht hLI.1 g c2
            obtain ⟨f2, m2, _⟩ := ih _ (hR2 c2 c5)
            exact ⟨FT_nxt.trans f2, by omega, fun z => absurd z g⟩
          · rw [if_neg c5]; exact ⟨.refl, Nat.le_refl _, fun z => z⟩
        · rw [if_neg c2]
          obtain ⟨hh, _, ht12, _⟩ := wOK_q hLI.1 g c1 c2
          have fq : FT t Y (qonY N own sd tm t Y).2 := FT_qon (hh.2.2.1 ht12)
          rcases LI_qon (sd := sd) hsd ht hLI g c1 c2 with ⟨_, b2, b3⟩ | ⟨_, b2, b3, _⟩
          · rw [b2, if_pos rfl]
            obtain ⟨f2, m2, _⟩ := ih _ (hR3 c1 c2 b2)
            exact ⟨fq.trans f2, by omega, fun z => absurd z g⟩
          · rw [b2, if_neg Bool.false_ne_true]; exact ⟨fq, b3, fun z => absurd z g⟩
theorem QR_pre (hx : XR Q M M1) (hg : QR r M1 m al N pa own sd ps sn pu rf tm lf b0 tk pb as nb Q t Y Y1) : QR r M m al N pa own sd ps sn pu rf tm lf b0 tk pb as nb Q t Y Y1 := by
  obtain ⟨M', h', lf', eg', mn', fa', b0', a1, a2, a3, a4⟩ := hg
  exact ⟨M', h', lf', eg', mn', fa', b0', a1, a2, hx.trans a3, a4⟩
theorem QE_R (hg : QE r M m al N pa own sd ps sn pu rf tm lf b0 eg tk pb as nb Q t Y1) (hmu : mu own Y1 t ≤ mu own Y t) : QR r M m al N pa own sd ps sn pu rf tm lf b0 tk pb as nb Q t Y Y1 := by
  obtain ⟨M', h', lf', mn', fa', b0', a1, a2, a3, a4, a5, a6, a7⟩ := hg
  exact ⟨M', h', lf', eg, mn', fa', b0', a1, a2, a3.xr, a4, ⟨a5.1, a5.2.1, by have := a5.2.2; omega⟩, a6, a7⟩
theorem F5_10 : ∀ z, F5 z = true → F10 z = true := fun z hz => by
  unfold F5 at hz
  simp only [Bool.or_eq_true, beq_iff_eq] at hz
  rcases hz with (((e | e) | e) | e) | e <;> rw [e] <;> rfl
/-- the lookups of a query, and what comes behind them -/
theorem c_goOn3 (hB : bdg N ev oth) (hal : al ≤ 8) (ht : t < 12) (hN : 12 + N ≤ 44) (hQ : as t = some Q) : ∀ (n : Nat) (M : MM) (Y : Ys) (h : Gh) (lf : Nat → Nat) (eg : EG) (fu : Nat), CB M m al N pa own sd ps sn pu rf tm lf b0 eg tk pb as nb mn fa Y h → AsS M Q → AsF M Q (ys Y) (yq Y) t → (∀ r, r < nb → mn r = yv Y 269 r) → recY nb Y → yv Y 226 t ≠ 0 → yv Y 230 t = 1 → yv Y 227 t = 3 → RunP (fun Y => LI N own Lb Y t ∧ sdY m N own tm Lb ev Y) m al N own sd tm Lb t n Y → mu own Y t < n → 66 * mu own Y t + 66 < fu → lf t + 2 * mu own Y t + 4 < 2147483648 →
    QR (lpN (fun s : Int × MM => b_X11_goOn_2 ((wa pa t : Nat) : Int) s.1 s.2) fu (1, M)) M m al N pa own sd ps sn pu rf tm lf b0 tk pb as nb Q t Y (prY m al N own sd tm Lb t n Y) := by
  intro n
  induction n with
  | zero => intro M Y h lf eg fu _ _ _ _ _ _ _ _ hR; exact hR.elim
  | succ n ih =>
  intro M Y h lf eg fu hC hS hF hmn hrec hgo h1 hk3 hR hmu hfu hlf
  obtain ⟨⟨hLI, hsd⟩, hR⟩ := hR
  obtain ⟨hR1, _, _⟩ := hR hgo
  obtain ⟨⟨hLI1, hsd1⟩, hRb⟩ := hR1 h1
  obtain ⟨hh, hk⟩ := wOK_hd hLI.1 hgo
  have pN := yp_lt hh
  have hrc := rc_ok hrec hh
  have t44 : t < 44 := by omega
  have tN : t < 12 + N := by omega
  have hm := hsd.2.2.2.2
  have epr : prY m al N own sd tm Lb t (n + 1) Y = if (lokY m al N own sd tm t Y).1 = true then prY m al N own sd tm Lb t n (behY m N own sd tm Lb t (lokY m al N own sd tm t Y).2) else (lokY m al N own sd tm t Y).2 := by
    conv => lhs; unfold prY
    rw [if_neg hgo, if_pos h1]
  have hn : (1 ≤ yv Y 247 t ∧ yv Y 247 t ≤ 3) ∧ (0 ≤ yv Y 248 t ∧ yv Y 248 t < yv Y 247 t) := by
    rcases hk with hk | hk | hk | ⟨k1, k2, k3, k4, k5⟩
    · omega
    · omega
    · omega
    · rcases k5 with ⟨_, z, _⟩ | ⟨z, _⟩
      · exact ⟨k4, z⟩
      · have := z.2.1; omega
  obtain ⟨M1, h', c1, c2, c3, c4⟩ := c_lok (fu := fu) hB hm hal tN hgo pN hrc (by omega) hsd t44 hC
  obtain ⟨YL, hYL⟩ : ∃ YL, YL = (lokY m al N own sd tm t Y).2 := ⟨_, rfl⟩
  have fL : FT t Y YL := by rw [hYL]; exact FT_lok
  have vL : ∀ a i, a ≠ 268 → yv YL a i = yv Y a i := fun a i z => by rw [hYL]; exact lok_v z
  have qL0 : yq YL = yq Y := by rw [hYL]; rfl
  have muL : mu own YL t = mu own Y t := by rw [hYL]; exact (wOK_lok hLI.1 hgo h1).2
  rw [← hYL] at c1 c4 hRb hLI1 hsd1 epr
  have hu := hC.2.1.1
  have goL : yv YL 226 t ≠ 0 := by rw [vL _ _ (by decide)]; exact hgo
  have X1 : XR Q M M1 := XR_fk c2 F5_10 rfl
  have S1 : AsS M1 Q := AsS_xr hu hS X1
  have hlt := AsS_lt hu hS
  have F1 : AsF M1 Q (ys YL) (yq YL) t := AsF_ag hF S1 (fun z i hz => (c2.cell (by unfold AQs at hz; omega) (by rw [AQ_mo hS hz]; rfl)).1 i) (fun a z => vL a t (by omega)) (fun i _ => ⟨vL _ _ (by decide), vL _ _ (by decide)⟩) hn.1.2 (by rw [qL0]; exact ⟨rfl, rfl, rfl, rfl⟩) (fun i _ => by rw [qL0]; exact ⟨rfl, rfl⟩)
  have recL : recY nb YL := rec_ft hrec fL (fun _ => hgo)
  have mnL : ∀ r, r < nb → mn r = yv YL 269 r := fun r hr => by rw [vL _ _ (by decide)]; exact hmn r hr
  cases hb : (lokY m al N own sd tm t Y).1 with
  | false =>
    rw [hb, if_neg Bool.false_ne_true] at epr
    rw [epr]
    exact ⟨M1, h', lf, eg, mn, fa, b0, c3 hb, c1, X1, fun _ => F1, ⟨fun _ _ => rfl, Nat.le_refl _, by omega⟩, mnL, Or.inl rfl⟩
  | true =>
    rw [hb, if_pos rfl] at epr
    obtain ⟨hall, fu', hf1, hf2, hf3⟩ := c4 hb
    rw [epr, hf3]
    have hRb := hRb hb
    obtain ⟨fu2, hfu2⟩ : ∃ f, fu' = f + 1 := ⟨fu' - 1, by omega⟩
    have h1L : yv YL 230 t = 1 := by rw [vL _ _ (by decide)]; exact h1
    have hhL := (wOK_hd hLI1.1 goL).1
    obtain ⟨_, muB⟩ := LI_beh (sd := sd) hsd1 t44 hLI1.1 goL h1L
    obtain ⟨C2, f2⟩ := c_life (t := t) c1 tN (by omega)
    obtain ⟨Y2, hY2⟩ : ∃ Y2, Y2 = setW YL (dtW t (yw YL)) := ⟨_, rfl⟩
    rw [← hY2] at C2
    have v2 : ∀ a i, yv Y2 a i = yv YL a i := fun a i => by rw [hY2]; rfl
    have hd2 : dtW t (yw Y2) = yw Y2 := by rw [hY2]; exact dtW_dtW
    have k3L : yv YL 227 t = 3 := by rw [vL _ _ (by decide)]; exact hk3
    have eb : behY m N own sd tm Lb t YL = hldY m own t Y2 := by
      rw [show behY m N own sd tm Lb t YL = behY m N own sd tm Lb t Y2 from by rw [hY2]; exact beh_dt.symm]
      unfold behY
      rw [v2, k3L, if_neg (by decide), if_neg (by decide), if_neg (by decide)]
    have hh2 : hdW N Y2 t := by rw [hY2]; exact hhL
    have ok2 : okW N own tm (yw Y2) := by rw [hY2]; exact ok_dt hsd1.1
    obtain ⟨M2, hM2⟩ : ∃ M2, M2 = sI M1 (wa pa t) 5 ((lf t : Int) + 1) := ⟨_, rfl⟩
    rw [← hM2] at C2 f2
    have hu1 := c1.2.1.1
    have X2 : XR Q M1 M2 := XR_fk f2 (mo1 rfl) rfl
    have S2 : AsS M2 Q := AsS_xr hu1 S1 X2
    have hlt1 := AsS_lt hu1 S1
    have F2 : AsF M2 Q (ys Y2) (yq Y2) t := by
      have q2 : yq Y2 = yq YL := by rw [hY2]; rfl
      exact AsF_ag F1 S2 (fun z i hz => (f2.cell (by unfold AQs at hz; omega) (by rw [AQ_mo S1 hz]; rfl)).1 i) (fun a z => v2 a t) (fun i _ => ⟨v2 _ _, v2 _ _⟩) (by rw [show vI (ys YL) 247 t = yv Y 247 t from vL _ _ (by decide)]; exact hn.1.2) (by rw [q2]; exact ⟨rfl, rfl, rfl, rfl⟩) (fun i _ => by rw [q2]; exact ⟨rfl, rfl⟩)
    have rec2 : recY nb Y2 := by rw [hY2]; exact recL
    have lf1 : (fup lf t (lf t + 1)) t = lf t + 1 := fup_eq
    have n2 : yv Y2 247 t = yv Y 247 t := by rw [v2, vL _ _ (by decide)]
    have n8 : yv Y2 248 t = yv Y 248 t := by rw [v2, vL _ _ (by decide)]
    rw [eb] at hRb muB ⊢
    have hRb2 := run_ft (m := m) (al := al) (N := N) (own := own) (sd := sd) (tm := tm) (Lb := Lb) (ev := ev) t44 n _ hRb
    have LK := c_looked31 (n := n) (Lb := Lb) (ev := ev) (q_run (by rw [lf1]; omega) hN n) C2 S2 F2 (fun r hr => by rw [v2]; exact mnL r hr) rec2 hh2 ht (by rw [lf1]; omega) (by rw [v2]; exact k3L) (by rw [v2]; exact h1L) (by rw [n2]; exact hn.1) (by rw [n2, n8]; exact hn.2) hm ok2 (by rw [hY2]; exact hsd1.2.2.1 t t44) hd2 (fun _ => hRb)
    obtain ⟨w1, w2, w3, w4, w5⟩ := c1.2.1.2.2.1 t tN
    have k15 : (kd M1 (wa pa t + 5)).1 = 15 := by rw [w2.1.1]
    have hov : f_X15_isOver ((wa pa t + 5 : Nat) : Int) M1 = some (b2i true) := by rw [c_isOver w2 hm, hall]
    have k112 : (kd M2 (wa pa t)).1 = 11 := by rw [hM2, kd_sI]; exact w1.1
    have go2 : yv Y2 226 t ≠ 0 := by rw [v2]; exact goL
    have pl : rR M2 (wa pa t) 3 = (Q : Int) := by
      have := ((C2.2.2.1 t tN).2.2.2 go2).2.2.2.2.2 (by rw [show vI (ys Y2) 227 t = yv YL 227 t from v2 _ _]; exact k3L)
      rw [this.1, hQ]; rfl
    have k31 : (kd M2 Q).1 = 31 := by rw [S2.1]
    have body : ∀ x M3, f_X31_looked (Q : Int) ((wa pa t : Nat) : Int) M2 = some (x, M3) → b_X11_goOn_2 ((wa pa t : Nat) : Int) 1 M1 = some (.inl (x, M3)) := fun x M3 e => by
      unfold b_X11_goOn_2
      rw [if_neg (by decide), gfr_e w1.1, w1.2.1.2.1, Option.bind_some, ck_e k15, hov, Option.bind_some, if_neg (by decide), gfi_e w1.1, w5, Option.bind_some, pfi_e w1.1, Option.bind_some, ← hM2, gfr_e k112, pl, Option.bind_some, ckE_f (by rw [k31]; decide), ckE_f (by rw [k31]; decide), ckE_f (by rw [k31]; decide), ckE_t k31, e]
      rfl
    have XX : XR Q M M2 := X1.trans X2
    rcases LK with ⟨M3, e1, e2⟩ | ⟨M3, eg3, e1, e2, e3, e4, e5, e6, e7⟩
    · obtain ⟨M', h3, lf', mn', fa', b0', a1, a2, a3, a4, a5, a6, a7⟩ := e2
      have a1 : M3 = M' := by injection a1
      subst a1
      have a52 := a5.2
      rw [lf1] at a52
      refine ⟨M3, h3, lf', eg, mn', fa', b0', ?_, a2, XX.trans a3.xr, a4, ⟨fun z hz => (a5.1 z hz).trans (fup_ne hz), by omega, by omega⟩, a6, a7⟩
      rw [hfu2, lpN_cnt (b := fun s : Int × MM => b_X11_goOn_2 ((wa pa t : Nat) : Int) s.1 s.2) (s := (1, M1)) (body 0 M3 e1)]
      refine lpN_end (by omega) ?_
      show b_X11_goOn_2 ((wa pa t : Nat) : Int) 0 M3 = _
      unfold b_X11_goOn_2
      rw [if_pos (by decide)]
    · have v3 : ∀ a i, a ≠ 250 → a ≠ 252 → a ≠ 248 → a ≠ 230 → a ≠ 268 → yv (hldY m own t Y2) a i = yv Y a i := fun a i z1 z2 z3 z4 z5 => by rw [e7 a i z1 z2 z3 z4, v2, vL _ _ z5]
      have g := ih M3 (hldY m own t Y2) h' (fup lf t (lf t + 1)) eg3 fu2 e2 e3 e4 (fun r hr => by rw [v3 _ _ (by decide) (by decide) (by decide) (by decide) (by decide)]; exact hmn r hr) (recY_ag rec2 (fun a i z => e7 a i (by omega) (by omega) (by omega) (by omega))) (by rw [v3 _ _ (by decide) (by decide) (by decide) (by decide) (by decide)]; exact hgo) e6 (by rw [v3 _ _ (by decide) (by decide) (by decide) (by decide) (by decide)]; exact hk3) hRb (by omega) (by omega) (by rw [lf1]; omega)
      obtain ⟨M', h3, lf', eg', mn', fa', b0', a1, a2, a3, a4, a5, a6, a7⟩ := g
      rw [lf1] at a5
      refine ⟨M', h3, lf', eg', mn', fa', b0', ?_, a2, XX.trans (e5.trans a3), a4, ⟨fun z hz => (a5.1 z hz).trans (fup_ne hz), by omega, by omega⟩, a6, a7⟩
      rw [hfu2, lpN_cnt (b := fun s : Int × MM => b_X11_goOn_2 ((wa pa t : Nat) : Int) s.1 s.2) (s := (1, M1)) (body 1 M3 e1)]
      exact a1
end CGOON3
