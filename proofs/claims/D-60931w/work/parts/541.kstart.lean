/-! start, both sides -/
section KSTART
variable {S : Nat → Bool} {M M1 : MM} {V V1 W sc : VV} {m al N p t t' nb k K s : Nat} {pa tk : Nat → Nat} {own : Nat → Ky} {sd ps sn pu rf tl : Nat → Int} {tm x1 x : Int} {B Bt : Nat × Nat} {pb as : Nat → Option Nat} {Y : Ys} {Lb : Nat → List Trm} {LA : Nat → List Nat} {dn : Nat → Int} {nS nx : Nat → Nat} {KL : List Ky}
theorem c_has (hX : X0 M) (hb : BoC M m al N pa) (hx : w32 x = x) : f_X1_has ((0 : Nat) : Int) x M = some (b2i (decide (0 ≤ x) && decide (x < (N : Int)))) := by
  have k6 : (kd M 18).1 = 6 := by rw [hb.1.1]
  have hN := hb.2.2.2.1
  unfold f_X1_has f_X6_has
  rw [gfr_e hX.1, Option.bind_some, hX.2.1, ck_e k6, hx]
  by_cases c : x < 0
  · rw [if_pos c, show decide (0 ≤ x) = false from decide_eq_false (by omega)]; rfl
  · rw [if_neg c, gfi_e k6, Option.bind_some, hb.2.2.1, w32_nn (by omega), show decide (0 ≤ x) = true from decide_eq_true (by omega)]
    by_cases c2 : x < (N : Int)
    · rw [if_pos c2, show decide (x < (N : Int)) = true from decide_eq_true c2]; rfl
    · rw [if_neg c2, show decide (x < (N : Int)) = false from decide_eq_false c2]; rfl
/-- a peer comes to life -/
theorem TK_live (h : TK M V m al N pa own sd ps sn tm tk as nb Lb LA dn KL K s Bt Y) (hN : 12 + N ≤ 44) (hp : p < N) (hE : Em (yw Y) p) : ∃ M' V', f_X17_live ((pa p : Nat) : Int) M = some M' ∧ f_X16_alive (p : Int) V = some V' ∧ TK M' V' m al N pa own sd (fup ps p 1) (fup sn p tm) tm tk as nb Lb LA dn KL K s Bt Y ∧ FK (fun z => z == 5) M M' ∧ FrV G5 V V' := by
  obtain ⟨pu, rf, pb, nS, B, k, ⟨h, lf, b0, eg, mn, sto, fa, Z, ev, oth, tn, hJ, hCT⟩, h2, h3, h4⟩ := h
  obtain ⟨M', V', a1, a2, a3, a4, a5⟩ := j_live hJ hN hp hE (h4 p)
  exact ⟨M', V', a1, a2, ⟨pu, rf, pb, nS, B, k, ⟨h, lf, b0, eg, mn, sto, fa, Z, ev, oth, tn, a3, hCT⟩, h2, h3, h4⟩, a4, a5⟩
/-- what a state tells of a peer -/
theorem TK_peer (h : TK M V m al N pa own sd ps sn tm tk as nb Lb LA dn KL K s Bt Y) : BoC M m al N pa ∧ (∀ p, p < N → PeS M (pa p) p) ∧ (∃ tl pu rf, PV V N own sd ps sn pu rf tl) ∧ (∃ pu rf tl nx, PeC M N pa own sd ps sn pu rf tl nx) := by
  obtain ⟨pu, rf, pb, nS, B, k, ⟨h, lf, b0, eg, mn, sto, fa, Z, ev, oth, tn, hJ, hCT⟩, h2, h3, h4⟩ := h
  have hC := hJ.1.1.1.1
  obtain ⟨L, hP, hL⟩ := hJ.2.1.1
  exact ⟨hC.1, fun p hp => (hC.2.2.2.2.1.2.2 p hp).1, ⟨_, _, _, hP.2.1⟩, _, _, _, _, hC.2.2.2.2.1⟩
theorem k_start (h : TK M V m al N pa own sd ps sn tm tk as nb Lb LA dn KL K s Bt Y) (hX : X0 M) (hN : 12 + N ≤ 44) (hx : w32 x1 = x1) (hD : DE ps (yw Y)) :
    ∃ (M' : MM) (V' : VV) (r : Int) (ps' sn' : Nat → Int), f_X1_start ((0 : Nat) : Int) x1 M = some (r, M') ∧ f_X16_start x1 V = some (r, V') ∧ TK M' V' m al N pa own sd ps' sn' tm tk as nb Lb LA dn KL K s Bt Y ∧ DE ps' (yw Y) ∧ FK (fun z => z == 5) M M' ∧ Kp1 V V' ∧ vI V' 156 142 = vI V 156 142 ∧ (∀ q, sn' q = sn q ∨ sn' q = tm) := by
  obtain ⟨hb, hpe, ⟨tl, pu, rf, hv⟩, pu2, rf2, tl2, nx2, hP⟩ := TK_peer h
  have hs := c_has hX hb hx
  have lv := c_isLive hX hb hP hx
  have ip := v_isPeer hv.1 hx
  unfold f_X1_start f_X16_start
  rw [ck_e hX.1, hs, Option.bind_some, w32_b2i, ck_e hX.1, lv, Option.bind_some, w32_b2i, ip, Option.bind_some, w32_b2i]
  by_cases c : 0 ≤ x1 ∧ x1 < (N : Int)
  · obtain ⟨p, hp⟩ : ∃ p : Nat, x1 = (p : Int) := ⟨x1.toNat, by omega⟩
    have pN : p < N := by omega
    have e1 : (decide (0 ≤ x1) && decide (x1 < (N : Int))) = true := by rw [decide_eq_true c.1, decide_eq_true c.2]; rfl
    have e2 : lvB N ps x1 = decide (ps p = 1) := by
      unfold lvB
      rw [e1, hp, Int.toNat_natCast]; rfl
    rw [e1, e2, if_neg (show ¬ b2i true = 0 by decide), if_neg (show ¬ b2i true = 0 by decide), hp, l2_n (by omega) (by decide), Option.bind_some, w32_vI, (hv.2.2.1 p (by omega)).2.2.1, show w32 1 = 1 from by decide]
    by_cases c2 : ps p = 1
    · rw [decide_eq_true c2, if_neg (by decide), if_pos c2]
      exact ⟨M, V, 0, ps, sn, rfl, rfl, h, hD, .refl, .refl, rfl, fun _ => Or.inl rfl⟩
    · rw [decide_eq_false c2, if_pos (by decide), if_neg c2]
      obtain ⟨M', V', a1, a2, a3, a4, a5⟩ := TK_live h hN pN (hD p c2)
      refine ⟨M', V', 1, _, _, ?_, ?_, a3, fun q hq => ?_, a4, Kp1_fr a5 rfl rfl, fv a5 rfl, fun q => fup_or q⟩
      · rw [gfr_e hX.1, Option.bind_some, hX.2.1, gfr_e (by rw [hb.1.1]), Option.bind_some, hb.1.2.2.1.2.2.2.1, lar_e (k := 247) (l := 32) (j := p) hb.1.2.2.2.1 (by decide) (by decide) (w32_nn (by omega)) (by omega), Option.bind_some, hb.2.2.2.2.1 p pN, ck_e (by rw [(hpe p pN).1]), a1]
        rfl
      · rw [a2]; rfl
      · by_cases z : q = p
        · rw [z, fup_eq] at hq; exact absurd rfl hq
        · rw [fup_ne z] at hq; exact hD q hq
  · have e1 : (decide (0 ≤ x1) && decide (x1 < (N : Int))) = false := by
      cases e : (decide (0 ≤ x1) && decide (x1 < (N : Int))) with
      | false => rfl
      | true => rw [Bool.and_eq_true, decide_eq_true_eq, decide_eq_true_eq] at e; exact absurd e c
    rw [e1, if_pos (by decide), if_pos (by decide)]
    exact ⟨M, V, 0, ps, sn, rfl, rfl, h, hD, .refl, .refl, rfl, fun _ => Or.inl rfl⟩
end KSTART
