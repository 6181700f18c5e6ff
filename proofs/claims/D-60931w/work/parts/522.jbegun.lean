/-! a work has begun, both sides -/
section JBEGUN
variable {S : Nat → Bool} {M M1 : MM} {V V1 W : VV} {m al N p t t' nb nb' oth Z L k K kx n : Nat} {pa tk : Nat → Nat} {own : Nat → Ky} {sd ps sn pu rf : Nat → Int} {tm x : Int} {lf lf0 lf' : Nat → Nat} {b b0 b0' B : Nat × Nat} {h h' : Gh} {eg : EG} {pb as : Nat → Option Nat} {mn sto : Nat → Int} {fa : Nat → Nat} {Y Yo Y1 Y' : Ys} {Lb : Nat → List Trm} {LA : Nat → List Nat} {dn : Nat → Int} {ev tn tn0 tn' nS : Nat → Nat} {KL : List Ky}
theorem j_begun (hN : 12 + N ≤ 44) (hal : al ≤ 8) (ht : t < 12 + N) (hB : bdg N ev oth) (hrec : recY nb Yo) (hh : hdW N Yo t) (ho : ∀ t', t' < 44 → t' ≠ t → wE N own Lb Yo t') (h44 : ∀ t', t' < 44 → 12 + N ≤ t' → yv Yo 226 t' = 0) (hK : KL.length ≤ 96 ∧ ∀ p, p < N → own p ∈ KL ∧ okTK KL (wT (yw Yo) p)) (f : FT t Yo Y1) (hLI : LI N own Lb Y1 t) (hs1 : yv Y1 226 t ≠ 0 → yv Y1 230 t = 1) (c1 : CW M m al N pa own sd ps sn pu rf tm lf b0 eg tk pb as nb mn fa Lb LA dn sto Y1 h) (h3 : ∀ t, t < 12 + N → yv Y1 226 t ≠ 0 → yv Y1 227 t = 3 → yv Y1 247 t ≤ 3) (c2 : VY V m al N own sd ps sn pu rf tm Lb oth Z ev tn Y1) (hPI : PI KL tm (wT (yw Yo)) k (yw Y1)) (hx : x = b2i (decide (yv Y1 226 t ≠ 0))) (htn : tn t < 1500000000) (hlf : lf t < 1500000000) :
    ∃ M' V' Y' h' lf' b0' eg' mn' sto' fa' tn', j_X11_start_38 ((wa pa t : Nat) : Int) x M = some M' ∧ f_X16_proceed (t : Int) V = some V' ∧ JX M' V' m al N pa own sd ps sn pu rf tm tk pb as nb Lb LA dn KL k h' lf' b0' eg' mn' sto' fa' Z ev oth tn' Y' ∧ FK F11 M M' ∧ KpV V V' ∧ FT t Yo Y' ∧ BS b0 b0' Y' t ∧ ((∀ z, z ≠ t → tn' z = tn z) ∧ tn' t + 2 * mu own Y' t ≤ tn t + 3000) ∧ ((∀ z, z ≠ t → lf' z = lf z) ∧ lf' t + 2 * mu own Y' t ≤ lf t + 3000) ∧ ∀ P : Wd → Prop, ClP P N own sd tm (yp Yo t) t → P (yw Y1) → P (yw Y') := by
  have t44 : t < 44 := by omega
  have m1 := mu_le hLI.1
  obtain ⟨V', tn', a1, a2, a3⟩ := v_proceed (n := 2000) c2 hB t44 hal hLI (by omega) (by decide) (by omega)
  have pN := yp_lt hh
  have okp : kyo (own (yp Yo t)) := (c2.2.1.2.2.2 (yp Yo t) pN).1
  have hcl : ClP (PI KL tm (wT (yw Yo)) k) N own sd tm (yp Yo t) t := PI_cl (by have := hB.2; omega) okp (hK.2 _ pN).1
  have hPI' : PI KL tm (wT (yw Yo)) k (yw (prY m al N own sd tm Lb t 2000 Y1)) := cl_pr t44 2000 _ a3 (by rw [FT_p f]; exact hcl) hPI
  have g : RW (j_X11_start_38 ((wa pa t : Nat) : Int) x M) M m al N pa own sd ps sn pu rf tm lf b0 tk pb as nb Lb LA dn t (lf t + 2 * mu own Y1 t + 1) (prY m al N own sd tm Lb t 2000 Y1) := by
    by_cases c : yv Y1 226 t = 0
    · have e : prY m al N own sd tm Lb t 2000 Y1 = Y1 := pr_0 (n := 1999) c
      rw [e]
      refine ⟨M, h, lf, eg, mn, sto, fa, b0, ?_, c1, .refl, ⟨fun _ _ => rfl, Nat.le_refl _, by omega⟩, Or.inl rfl⟩
      unfold j_X11_start_38
      rw [hx, decide_eq_false (fun z => z c), if_pos (by decide)]
      rfl
    · have r := c_goW hB hal ht hN c1 h3 c (hs1 c) a3 (by omega) (by omega) (by omega)
      have e : j_X11_start_38 ((wa pa t : Nat) : Int) x M = f_X11_goOn ((wa pa t : Nat) : Int) M := by
        unfold j_X11_start_38
        rw [hx, decide_eq_true c, if_neg (by decide), ck_e (c1.1.1.2.1.2.2.1 t ht).1.1]
        cases f_X11_goOn ((wa pa t : Nat) : Int) M <;> rfl
      rw [e]; exact r
  obtain ⟨M', h', lf', b0', eg', mn', sto', fa', e1, e2, e3, ⟨e4, e5, e6⟩, e7⟩ := j_ran hN ht hrec hh ho h44 hK hPI' f a2 g
  obtain ⟨_, b2, b3, b4, b5, b6, b7⟩ := a2
  exact ⟨M', V', _, h', lf', b0', eg', mn', sto', fa', tn', e1, a1, e2, e3, b2, f.trans b7, e7, ⟨b3, by omega⟩, ⟨e4, by omega⟩, fun P hc hP => cl_pr t44 2000 _ a3 (by rw [FT_p f]; exact hc) hP⟩
/-- a start counts -/
theorem CTR_start (ht : t < 44) (h : CTR N own nb K nS B lf0 b0 Z ev oth tn0 Y) (h0 : yv Y 226 t = 0) (hnb : nb' = nb + if t < 12 then 1 else 0) (hm : ∀ t', t' < 44 → t' ≠ t → mu own Y' t' = mu own Y t') (h6 : ∀ t', t' ≠ t → yv Y' 226 t' = yv Y 226 t') (ht1 : ∀ z, z ≠ t → tn' z = tn0 z) (hl1 : ∀ z, z ≠ t → lf' z = lf0 z) (ht2 : tn' t + 2 * mu own Y' t ≤ tn0 t + 4000) (hl2 : lf' t + 2 * mu own Y' t ≤ lf0 t + 4000) (hb : BS b0 b0' Y' t) : CTR N own nb' K (fup nS t (nS t + 1)) B lf' b0' Z ev oth tn' Y' := by
  obtain ⟨h1, h2, h3, c, c1, c2, c3⟩ := h
  have gn := goN_ft (Y := Y) h6
  refine ⟨fun t' ht' => ?_, h2, h3, ?_⟩
  · have q := h1 t' ht'
    by_cases e : t' = t
    · rw [e] at q ⊢
      rw [fup_eq]; omega
    · rw [ht1 t' e, hl1 t' e, hm t' ht' e, fup_ne e]; exact q
  · rw [if_neg (fun r => r.2 h0)] at gn
    rcases hb with rfl | ⟨rfl, z, z2⟩
    · refine ⟨c, ?_, c2, c3⟩
      by_cases q : t < 12
      · rw [if_pos q] at hnb
        have : (if t < 12 ∧ yv Y' 226 t ≠ 0 then 1 else 0) ≤ 1 := by split <;> omega
        omega
      · rw [if_neg q] at hnb
        rw [if_neg (fun r => q r.1)] at gn; omega
    · rw [if_pos z2] at hnb
      rw [if_neg (fun r => r.2 z)] at gn
      exact ⟨c + 1, by omega, by show b0.1 + 1 ≤ _; omega, by show b0.2 + 180 ≤ _; omega⟩
end JBEGUN
