/-! publish, both sides -/
section KPUB
variable {M : MM} {V : VV} {m al N p t nb k K s s' : Nat} {pa tk : Nat → Nat} {own : Nat → Ky} {sd ps sn : Nat → Int} {tm x1 x2 x : Int} {Bt : Nat × Nat} {as : Nat → Option Nat} {Y : Ys} {Lb : Nat → List Trm} {LA : Nat → List Nat} {dn : Nat → Int} {KL : List Ky}
theorem TK_s (h : TK M V m al N pa own sd ps sn tm tk as nb Lb LA dn KL K s Bt Y) (hs : s ≤ s') : TK M V m al N pa own sd ps sn tm tk as nb Lb LA dn KL K s' Bt Y := by
  obtain ⟨pu, rf, pb, nS, B, k, hJ, h2, h3⟩ := h
  exact ⟨pu, rf, pb, nS, B, k, hJ, fun t ht => Nat.le_trans (h2 t ht) hs, h3⟩
/-- a state of both with one record more, or as it was -/
def TB (r1 : Option (Int × MM)) (r2 : Option (Int × VV)) (M : MM) (V : VV) (m al N : Nat) (pa : Nat → Nat) (own : Nat → Ky) (sd ps sn : Nat → Int) (tm : Int) (as : Nat → Option Nat) (nb : Nat) (Lb : Nat → List Trm) (LA : Nat → List Nat) (dn : Nat → Int) (KL : List Ky) (K s : Nat) (Bt : Nat × Nat) (Y : Ys) : Prop :=
  ∃ (M' : MM) (V' : VV) (Y' : Ys) (r : Int) (nb' : Nat) (tk' : Nat → Nat) (Bt' : Nat × Nat), r1 = some (r, M') ∧ r2 = some (r, V') ∧ TK M' V' m al N pa own sd ps sn tm tk' as nb' Lb LA dn KL K s Bt' Y' ∧ XC M' nb' tk' ∧ yv Y' 156 91 = (nb' : Int) ∧ ((nb' = nb ∧ Bt' = Bt) ∨ (nb' = nb + 1 ∧ Bt' = (Bt.1 + 1, Bt.2 + 7))) ∧ FK FH M M' ∧ Kp1 V V' ∧ (DE ps (yw Y) → DE ps (yw Y'))
theorem TB_id {M0 : MM} {V0 : VV} {Y0 : Ys} {r : Int} (h : TK M V m al N pa own sd ps sn tm tk as nb Lb LA dn KL K s Bt Y) (hX : XC M nb tk) (h91 : yv Y 156 91 = (nb : Int)) (f : FK FH M0 M) (g : Kp1 V0 V) (e : DE ps (yw Y0) → DE ps (yw Y)) : TB (some (r, M)) (some (r, V)) M0 V0 m al N pa own sd ps sn tm as nb Lb LA dn KL K (s + 1) Bt Y0 := ⟨M, V, Y, r, nb, tk, Bt, rfl, rfl, TK_s h (by omega), hX, h91, Or.inl ⟨rfl, rfl⟩, f, g, e⟩
theorem k_publish (h : TK M V m al N pa own sd ps sn tm tk as nb Lb LA dn KL K s Bt Y) (hX : XC M nb tk) (hN : 12 + N ≤ 44) (hal : al ≤ 8) (h91 : yv Y 156 91 = (nb : Int)) (h1 : w32 x1 = x1) (hK : K ≤ 130000000) (hs : s ≤ 70000) (hsn : ∀ p, p < N → sn p ≤ tm) (hD : DnV V N dn) : TB (f_X1_publish ((0 : Nat) : Int) x1 M) (f_X16_publish x1 V) M V m al N pa own sd ps sn tm as nb Lb LA dn KL K (s + 1) Bt Y := by
  obtain ⟨hb, hpe, ⟨tl, pu0, rf0, hv⟩, pu2, rf2, tl2, nx2, hP⟩ := TK_peer h
  have lv := c_isLive hX.1 hb hP h1
  have lvv := v_lives hv h1
  have kf := k_free h hX hN h91
  have base : ∀ r : Int, TB (some (r, M)) (some (r, V)) M V m al N pa own sd ps sn tm as nb Lb LA dn KL K (s + 1) Bt Y := fun r => TB_id h hX h91 .refl .refl (fun z => z)
  unfold f_X1_publish f_X16_publish
  rw [ck_e hX.1.1, lv, lvv]
  cases lb : lvB N ps x1 with
  | false =>
    rcases kf with ⟨t, t1, t2, t3, t4, t5⟩ | ⟨t4, t5⟩
    · rw [t4, t5, Option.bind_some, ck_e hX.1.1, Option.bind_some, Option.bind_some, Option.bind_some, if_pos (show w32 (b2i false) = 0 by decide), if_pos (show w32 (b2i false) = 0 by decide)]
      exact base (-1)
    · rw [t4, t5, Option.bind_some, ck_e hX.1.1, Option.bind_some, Option.bind_some, Option.bind_some, if_pos (show w32 (b2i false) = 0 by decide), if_pos (show w32 (b2i false) = 0 by decide)]
      exact base (-1)
  | true =>
    rcases kf with ⟨t, t1, t2, t3, t4, t5⟩ | ⟨t4, t5⟩
    · rw [t4, t5, Option.bind_some, ck_e hX.1.1, Option.bind_some, Option.bind_some, Option.bind_some, if_neg (show ¬ w32 (b2i true) = 0 by decide), if_neg (show ¬ w32 (b2i true) = 0 by decide), if_neg (by omega), if_neg (by rw [w32_nn (by omega)]; omega)]
      unfold lvB at lb
      rw [Bool.and_eq_true, Bool.and_eq_true, decide_eq_true_eq, decide_eq_true_eq, decide_eq_true_eq] at lb
      obtain ⟨p, hp⟩ : ∃ p : Nat, x1 = (p : Int) := ⟨x1.toNat, by omega⟩
      have pN : p < N := by omega
      have psp : ps p = 1 := by have := lb.2; rw [hp, Int.toNat_natCast] at this; exact this
      obtain ⟨pu, rf, pb, nS, B, k, ⟨h, lf, b0, eg, mn, sto, fa, Z, ev, oth, tn, hJ, hCT⟩, h3, ⟨h4, h4'⟩, h5⟩ := h
      obtain ⟨lim, d1, d2, d3⟩ := hD p pN
      have k11 := (hJ.1.1.1.2.1.2.2.1 t (by omega)).1.1
      obtain ⟨M1, pb', b0', B', P, a1, a2, a3, a4, a5, a6, a6'⟩ := j_pub (t := t) hJ hCT hN (by omega) t2
      have hX1 : XC M1 nb tk := XC_fk a5 hJ.1.1.1.2.1.1 rfl hX
      obtain ⟨M', V', Y', e1, e2, e3, e4, e5, e6, e7, e8⟩ := j_begin2 a3 a4 hX1 hN hal hK (by have := h3 t (by omega); omega) pN t1 t2 (hsn p pN) t3 h91 a2 d2 d3 d1
      have y91 : yv Y' 156 91 = ((nb + 1 : Nat) : Int) := by
        rw [show yv Y' 156 91 = yv (opXP t p nb lim Y) 156 91 from e7.2.2.1 156 91 (by unfold wrT; omega)]
        exact (opXP_eq (t := t) (p := p) (r := nb) (lim := lim) (Y := Y) (by omega) t3 d1).2.2.2
      have v91 : w32 (V' 156 91) = ((nb + 1 : Nat) : Int) := by
        obtain ⟨h6, lf6, b6, eg6, mn6, sto6, fa6, Z6, ev6, oth6, tn6, hJ6, _⟩ := e3
        exact (hJ6.2.1.2.2.2.2.1 156 91 (by unfold scA; omega)).trans y91
      refine ⟨M', V', Y', (nb : Int), nb + 1, fup tk nb (nN M1), (Bt.1 + 1, Bt.2 + 7), ?_, ?_, ⟨_, rf, pb', _, _, k, e3, fun z hz => ?_, ⟨?_, ?_⟩, fun q => ?_⟩, e4, y91, Or.inr ⟨rfl, rfl⟩, (a5.mono (fun z hz => by rw [beq_iff_eq.mp hz]; rfl)).trans e5, e6, fun z => DE_eq e8 psp z⟩
      · rw [ck_e k11, a1, Option.bind_some]
        show ck 1 ((0 : Nat) : Int) M1 ((f_X1_begin ((0 : Nat) : Int) ((wa pa t : Nat) : Int) x1 2 (P : Int) M1).bind fun r2 => j_X1_publish_32 r2.1 r2.2) = _
        rw [ck_e hX1.1.1, hp, e1]
        rfl
      · rw [hp, e2, Option.bind_some, v91]
        show some (((nb + 1 : Nat) : Int) - 1, V') = _
        rw [show ((nb + 1 : Nat) : Int) - 1 = (nb : Int) by omega]
      · have := h3 z hz
        by_cases c : z = t
        · rw [c, fup_eq]; rw [c] at this; omega
        · rw [fup_ne c]; omega
      · show B'.1 + 1 + 2 * ptN pb' (12 + N) = Bt.1 + 1; omega
      · show B'.2 + 7 + 71 * ptN pb' (12 + N) = Bt.2 + 7; omega
      · have u := h5 q
        refine ⟨?_, u.2⟩
        rcases fup_or (f := pu) (p := p) (v := tm) q with w | w
        · rw [w]; exact u.1
        · rw [w]; exact Int.le_refl _
    · rw [t4, t5, Option.bind_some, ck_e hX.1.1, Option.bind_some, Option.bind_some, Option.bind_some, if_neg (show ¬ w32 (b2i true) = 0 by decide), if_neg (show ¬ w32 (b2i true) = 0 by decide), if_pos rfl, if_pos (by decide)]
      exact base (-1)
end KPUB
