/-! a peer comes to life, both sides -/
section JLIVE
variable {S : Nat → Bool} {M M1 : MM} {V V1 W sc : VV} {m al N p t t' nb oth Z L k K : Nat} {pa tk : Nat → Nat} {own : Nat → Ky} {sd ps sn pu rf tl : Nat → Int} {tm x : Int} {lf : Nat → Nat} {b b0 B : Nat × Nat} {h h' : Gh} {eg : EG} {pb as : Nat → Option Nat} {mn sto : Nat → Int} {fa : Nat → Nat} {Y : Ys} {Lb : Nat → List Trm} {LA : Nat → List Nat} {dn : Nat → Int} {ev tn nS nx : Nat → Nat} {KL : List Ky} {w : Wd}
theorem cp_live (hC : CPs M m al N pa own sd ps sn pu rf tm lf b w h) (hp : p < N) (h1 : pu p ≤ tm ∧ rf p ≤ tm) : ∃ M', f_X17_live ((pa p : Nat) : Int) M = some M' ∧ CPs M' m al N pa own sd (fup ps p 1) (fup sn p tm) pu rf tm lf b w h ∧ FK (fun z => z == 5) M M' := by
  obtain ⟨c1, c2, c3, c4, c5, c6, c7, c8, c9⟩ := hC
  have hu := c5.1
  have pe := (c5.2.2 p hp).1
  have k17 : (kd M (pa p)).1 = 17 := by rw [pe.1]
  have k18 : (kd M 18).1 = 6 := by rw [c1.1.1]
  have k19 : (kd M 19).1 = 7 := by rw [c2.1.1]
  have wt : w32 tm = tm := by rw [← c2.2.2.1]; exact w32_rI
  have n18 : pa p ≠ 18 ∧ pa p ≠ 19 := ⟨fun e => by rw [e, k18] at k17; exact absurd k17 (by decide), fun e => by rw [e, k19] at k17; exact absurd k17 (by decide)⟩
  obtain ⟨A1, hA1⟩ : ∃ A, A = sI M (pa p) 3 1 := ⟨_, rfl⟩
  obtain ⟨A2, hA2⟩ : ∃ A, A = sI A1 (pa p) 16 tm := ⟨_, rfl⟩
  obtain ⟨A3, hA3⟩ : ∃ A, A = sI A2 (pa p) 17 tm := ⟨_, rfl⟩
  obtain ⟨A4, hA4⟩ : ∃ A, A = sI A3 (pa p) 18 tm := ⟨_, rfl⟩
  have x4 : Ex (fun z => z = pa p) M A4 := by
    rw [hA4, hA3, hA2, hA1]
    exact Ex.trans (M1 := sI (sI (sI M (pa p) 3 1) (pa p) 16 tm) (pa p) 17 tm) (Ex.trans (M1 := sI (sI M (pa p) 3 1) (pa p) 16 tm) (Ex.trans (M1 := sI M (pa p) 3 1) (Ex.st (A := fun z => z = pa p) rfl) (Ex.st (A := fun z => z = pa p) rfl)) (Ex.st (A := fun z => z = pa p) rfl)) (Ex.st (A := fun z => z = pa p) rfl)
  have f : FK (fun z => z == 5) M A4 := FK_ex x4 (fun q _ hq => by rw [hq, (Pe_mo pe).1]; rfl)
  have rp : ∀ i, rI A4 (pa p) i = if i = 18 ∨ i = 17 ∨ i = 16 then tm else if i = 3 then 1 else rI M (pa p) i := fun i => by
    rw [hA4, hA3, hA2, hA1]
    simp only [rI_sI, true_and]
    by_cases c1 : i = 18
    · rw [if_pos c1, if_pos (Or.inl c1), wt]
    · rw [if_neg c1]
      by_cases c2 : i = 17
      · rw [if_pos c2, if_pos (Or.inr (Or.inl c2)), wt]
      · rw [if_neg c2]
        by_cases c3 : i = 16
        · rw [if_pos c3, if_pos (Or.inr (Or.inr c3)), wt]
        · rw [if_neg c3, if_neg (show ¬ (i = 18 ∨ i = 17 ∨ i = 16) by omega)]
          by_cases c4 : i = 3
          · rw [if_pos c4, if_pos c4]; rfl
          · rw [if_neg c4, if_neg c4]
  refine ⟨A4, ?_, ⟨BoC_fk f hu (by decide) c1, NetRep_fk f hu (by decide) c2, tbs_fk f (by decide) c3, sts_fk f (by decide) c4, ?_, ?_, c7, ?_, c9⟩, f⟩
  · unfold f_X17_live
    rw [pfi_e k17, Option.bind_some, ← hA1, gfr_e (by rw [hA1]; exact k17), Option.bind_some, show rR A1 (pa p) 0 = ((18 : Nat) : Int) by rw [hA1]; exact pe.2.2.1.1, gfr_e (by rw [hA1]; exact k18), Option.bind_some, show rR A1 18 2 = ((19 : Nat) : Int) by rw [hA1]; exact c1.1.2.2.1.1, gfi_e (by rw [hA1]; exact k19), Option.bind_some, show rI A1 19 3 = tm by rw [hA1, rI_ne (by omega)]; exact c2.2.2.1, pfi_e (by rw [hA1]; exact k17), Option.bind_some, ← hA2, gfr_e (by rw [hA2, hA1]; exact k17), Option.bind_some, show rR A2 (pa p) 0 = ((18 : Nat) : Int) by rw [hA2, hA1]; exact pe.2.2.1.1, gfr_e (by rw [hA2, hA1]; exact k18), Option.bind_some, show rR A2 18 2 = ((19 : Nat) : Int) by rw [hA2, hA1]; exact c1.1.2.2.1.1, gfi_e (by rw [hA2, hA1]; exact k19), Option.bind_some, show rI A2 19 3 = tm by rw [hA2, rI_ne (by omega), hA1, rI_ne (by omega)]; exact c2.2.2.1, pfi_e (by rw [hA2, hA1]; exact k17), Option.bind_some, ← hA3, gfr_e (by rw [hA3, hA2, hA1]; exact k17), Option.bind_some, show rR A3 (pa p) 0 = ((18 : Nat) : Int) by rw [hA3, hA2, hA1]; exact pe.2.2.1.1, gfr_e (by rw [hA3, hA2, hA1]; exact k18), Option.bind_some, show rR A3 18 2 = ((19 : Nat) : Int) by rw [hA3, hA2, hA1]; exact c1.1.2.2.1.1, gfi_e (by rw [hA3, hA2, hA1]; exact k19), Option.bind_some, show rI A3 19 3 = tm by rw [hA3, rI_ne (by omega), hA2, rI_ne (by omega), hA1, rI_ne (by omega)]; exact c2.2.2.1, pfi_e (by rw [hA3, hA2, hA1]; exact k17), Option.bind_some, ← hA4]
  · refine ⟨f.un hu, c5.2.1, fun q hq => ?_⟩
    obtain ⟨h1', h2, h3, h4, h5, h6, ⟨t1, t2, t3, t4, t5⟩, h7, h8⟩ := c5.2.2 q hq
    have nk : ¬ (pa q + 1 + 1 = pa p) := fun e => by
      have k := h1'.2.2.2.2.1.2.2
      rw [e, pe.1] at k
      exact absurd k (by decide)
    have kc : kC A4 (pa q + 1) = kC M (pa q + 1) := by
      funext i
      exact x4.rI nk i
    have PS : PeS A4 (pa q) q := by
      refine ⟨by rw [x4.kd]; exact h1'.1, ?_, ⟨by rw [x4.rR]; exact h1'.2.2.1.1, by rw [x4.rR]; exact h1'.2.2.1.2.1, by rw [x4.rR]; exact h1'.2.2.1.2.2.1, by rw [x4.rR]; exact h1'.2.2.1.2.2.2.1, by rw [x4.rR]; exact h1'.2.2.1.2.2.2.2.1, by rw [x4.rR]; exact h1'.2.2.1.2.2.2.2.2.1, by rw [x4.rR]; exact h1'.2.2.1.2.2.2.2.2.2⟩, by rw [x4.kd]; exact h1'.2.2.2.1, ⟨by rw [x4.kd]; exact h1'.2.2.2.2.1.1, by rw [x4.rR]; exact h1'.2.2.2.2.1.2.1, by rw [x4.kd]; exact h1'.2.2.2.2.1.2.2⟩, by rw [x4.kd]; exact h1'.2.2.2.2.2⟩
      by_cases c : q = p
      · have e1 := h1'.2.1
        rw [c] at e1 ⊢
        rw [rp 1, if_neg (by decide), if_neg (by decide)]; exact e1
      · rw [x4.rI (fun e => c (c5.2.1 q p hq hp e))]; exact h1'.2.1
    refine ⟨PS, h2, by rw [kc]; exact h3, ?_⟩
    by_cases c : q = p
    · subst c
      rw [rp 3, rp 4, rp 10, rp 11, rp 12, rp 13, rp 14, rp 15, rp 17, rp 18, fup_eq, fup_eq]
      refine ⟨rfl, h5, h6, ⟨t1, t2, t3, t4, t5⟩, ?_, ?_⟩
      · rw [if_pos (by decide)]; omega
      · rw [if_pos (by decide)]; omega
    · have e : ∀ i, rI A4 (pa q) i = rI M (pa q) i := x4.rI (fun e => c (c5.2.1 q p hq hp e))
      rw [e, e, e, e, e, e, e, e, e, e, fup_ne c, fup_ne c]
      exact ⟨h4, h5, h6, ⟨t1, t2, t3, t4, t5⟩, h7, h8⟩
  · rw [hA4, hA3, hA2, hA1]
    exact rqs_word (rqs_word (rqs_word (rqs_word c6 hp (by decide)) hp (by decide)) hp (by decide)) hp (by decide)
  · rw [x4.nN, x4.nU]; exact c8
theorem vp_alive (h : VP V m al N own sd ps sn pu rf tm w L Z) (hp : p < N) (hT : wT w p = []) (hS : wS w p = []) : ∃ V', f_X16_alive (p : Int) V = some V' ∧ VP V' m al N own sd (fup ps p 1) (fup sn p tm) pu rf tm w L Z ∧ FrV G5 V V' := by
  obtain ⟨h1, h2, h3, h4, h5, h6, h7, h8⟩ := h
  have hN := h2.2.1
  have p32 : p < 32 := by omega
  have wt : w32 tm = tm := by rw [← h1.2.1]; exact w32_vI
  have e189 : vI V 189 p = 0 := by have := (h3.2 p p32).1; rw [hT] at this; exact this
  have e210 : vI V 210 p = 0 := by have := (h4 p p32).1; rw [hS] at this; exact this
  obtain ⟨W, hW⟩ : ∃ W, W = st2 (st2 (st2 (st2 V 167 p 1) 168 p tm) 189 p 0) 210 p 0 := ⟨_, rfl⟩
  have g : ∀ a i, ¬ ((a = 167 ∨ a = 168) ∧ i = p) → vI W a i = vI V a i := fun a i z => by
    rw [hW, vI_st2]
    by_cases c1 : a = 210 ∧ i = p
    · rw [if_pos c1, c1.1, c1.2, e210]; rfl
    · rw [if_neg c1, vI_st2]
      by_cases c2 : a = 189 ∧ i = p
      · rw [if_pos c2, c2.1, c2.2, e189]; rfl
      · rw [if_neg c2, vI_ne (by omega), vI_ne (by omega)]
  have f : FrV (fun z => z == 2 || z == 3 || z == 5) V W := by
    rw [hW]
    exact FrV.trans (FrV.trans (FrV.trans (FrV_st rfl) (FrV_st rfl)) (FrV_st rfl)) (FrV_st rfl)
  have t1 : w32 (st2 V 167 p 1 156 11) = tm := by rw [st2_ne (by omega)]; exact h1.2.1
  refine ⟨W, ?_, ⟨VNet_fr f (by decide) h1, ?_, ⟨by rw [g 156 42 (by omega)]; exact h3.1, fun q hq => tab_ag (h3.2 q hq) (Nat.le_refl _) (g 189 q (by omega)) (fun j _ => gR_ext (gk_ext (fun i _ => g _ _ (by omega))) (g _ _ (by omega)) (g _ _ (by omega)) (g _ _ (by omega)) (g _ _ (by omega)))⟩, fun q hq => st_ag (h4 q hq) (g 210 q (by omega)) (fun j _ => gP_ext (gk_ext (fun i _ => g _ _ (by omega))) (g _ _ (by omega)) (g _ _ (by omega)) (g _ _ (by omega)) (g _ _ (by omega))), rqs_ag h5 (fun a i z => g a i (by omega)), by rw [g 156 0 (by omega)]; exact h6, by rw [g 156 1 (by omega)]; exact h7, h8⟩, FrV.mono f (fun z hz => by unfold G5; simp only [Bool.or_eq_true, beq_iff_eq] at hz ⊢; omega)⟩
  · unfold f_X16_alive
    rw [s2_n p32 (by decide), Option.bind_some, t1, s2_n p32 (by decide), Option.bind_some, s2_n p32 (by decide), Option.bind_some, s2_n p32 (by decide), Option.bind_some, ← hW]
  · obtain ⟨a1, a2, a3, a4⟩ := h2
    refine ⟨by rw [g 156 13 (by omega)]; exact a1, a2, fun q hq => ?_, fun i hi => by rw [g 172 i (by omega)]; exact a4 i hi⟩
    obtain ⟨b1, b2, b3, b4, b5, b6⟩ := a3 q hq
    refine ⟨by rw [← b1]; exact gk_ext (fun i _ => g _ _ (by omega)), by rw [g 166 q (by omega)]; exact b2, ?_, ?_, by rw [g 169 q (by omega)]; exact b5, by rw [g 170 q (by omega)]; exact b6⟩
    · by_cases c : q = p
      · rw [c, fup_eq, hW, vI_ne (by omega), vI_ne (by omega), vI_ne (by omega), vI_eq rfl]; rfl
      · rw [fup_ne c, g 167 q (by omega)]; exact b3
    · by_cases c : q = p
      · rw [c, fup_eq, hW, vI_ne (by omega), vI_ne (by omega), vI_eq rfl, wt]
      · rw [fup_ne c, g 168 q (by omega)]; exact b4
/-- a peer that has nothing comes to life -/
theorem j_live (hJ : JX M V m al N pa own sd ps sn pu rf tm tk pb as nb Lb LA dn KL k h lf b0 eg mn sto fa Z ev oth tn Y) (hN : 12 + N ≤ 44) (hp : p < N) (hE : Em (yw Y) p) (h1 : pu p ≤ tm ∧ rf p ≤ tm) : ∃ M' V', f_X17_live ((pa p : Nat) : Int) M = some M' ∧ f_X16_alive (p : Int) V = some V' ∧ JX M' V' m al N pa own sd (fup ps p 1) (fup sn p tm) pu rf tm tk pb as nb Lb LA dn KL k h lf b0 eg mn sto fa Z ev oth tn Y ∧ FK (fun z => z == 5) M M' ∧ FrV G5 V V' := by
  obtain ⟨j1, j2, j3, j4, j5, j6, j7⟩ := id hJ
  obtain ⟨L, hP, hL⟩ := j2.1
  obtain ⟨M', a1, a2, a3⟩ := cp_live j1.1.1.1 hp h1
  obtain ⟨V', b1, b2, b3⟩ := vp_alive hP hp hE.1 hE.2.1
  have o : OKw N own tm KL k ev (yw Y) (yw Y) := ⟨j2.2.1, j2.2.2.1, j5, fun q hq => (j7 q hq).2, fun _ _ _ => rfl⟩
  exact ⟨M', V', a1, b1, JX_p hJ hN a2 a3 (by decide) b3 b2 hL o, a3, b3⟩
end JLIVE
