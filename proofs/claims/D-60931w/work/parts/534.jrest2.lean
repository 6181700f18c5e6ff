/-! rest, both sides -/
section JREST2
variable {S : Nat → Bool} {M M1 : MM} {V V1 W sc : VV} {m al N p t t' nb k K s : Nat} {pa tk : Nat → Nat} {own : Nat → Ky} {sd ps sn pu rf : Nat → Int} {tm x1 : Int} {B Bt : Nat × Nat} {pb as : Nat → Option Nat} {Y : Ys} {Lb : Nat → List Trm} {LA : Nat → List Nat} {dn : Nat → Int} {nS : Nat → Nat} {KL : List Ky}
/-- both know alike whether something is under way -/
theorem k_busy (h : TK M V m al N pa own sd ps sn tm tk as nb Lb LA dn KL K s Bt Y) (hX : XC M nb tk) (hN : 12 + N ≤ 44) {n j : Nat} (hj : j < n) (hn : n ≤ 1000) : ∃ b : Bool, f_X1_isBusy ((0 : Nat) : Int) M = some (b2i b) ∧ b_X16_rest_15 (n : Int) (j : Int) V = if b = true then j_X16_rest_34 (n : Int) (j : Int) V else xit (some ((j : Int), V)) := by
  obtain ⟨pu, rf, pb, nS, B, k, ⟨h, lf, b0, eg, mn, sto, fa, Z, ev, oth, tn, hJ, hCT⟩, _⟩ := h
  refine ⟨_, c_isBusy hX hJ hN, ?_⟩
  obtain ⟨L, hP, _⟩ := hJ.2.1.1
  have fl4 := hP.1.2.2.2.2.2.1
  have g44 := g01 (Y := Y) 44
  unfold b_X16_rest_15
  rw [w32_nn (by omega), w32_nn (by omega), if_pos (by omega), w32_w32, show w32 (V 156 32) = (((wfl (yw Y)).length : Nat) : Int) from hP.1.2.2.2.1, v_going hJ.2.1, Option.bind_some, w32_nn (by omega)]
  by_cases c1 : 0 < (wfl (yw Y)).length
  · rw [if_pos (by omega), decide_eq_true c1, Bool.true_or, if_pos rfl]
  · rw [if_neg (by omega), decide_eq_false c1, Bool.false_or]
    by_cases c2 : 0 < gN Y 44
    · rw [if_pos (by omega), decide_eq_true c2, if_pos rfl]
    · rw [if_neg (by omega), decide_eq_false c2, if_neg (by decide)]
      rfl
theorem k_restN (hN : 12 + N ≤ 44) (hal : al ≤ 8) {n : Nat} (hn : n ≤ 1000) : ∀ (d j fu : Nat) (M : MM) (V : VV) (Y : Ys) (tm : Int) (K s : Nat), d + j = n → d < fu → TK M V m al N pa own sd ps sn tm tk as nb Lb LA dn KL K s Bt Y → XC M nb tk → DnV V N dn → (tm + d ≤ 1000000) → K + 1680 * d ≤ 129999999 → s + d ≤ 70000 → (∀ p, p < N → sn p ≤ tm) → 0 ≤ vI V 156 142 → vI V 156 142 + 400 * d + 401 < 2147483648 →
    ∃ (M' : MM) (V' : VV) (Y' : Ys) (e q : Nat), q ≤ d ∧ lpN (fun s : Int × MM => b_X1_rest_15 ((0 : Nat) : Int) (n : Int) s.1 s.2) fu ((j : Int), M) = some ((e : Int), M') ∧ lpN (fun s : Int × VV => b_X16_rest_15 (n : Int) s.1 s.2) fu ((j : Int), V) = some ((e : Int), V') ∧ TK M' V' m al N pa own sd ps sn (tm + q) tk as nb Lb LA dn KL (K + 1680 * q) (s + q) Bt Y' ∧ FK FG M M' ∧ (∀ a i, kp2 a i → V' a i = V a i) ∧ YT Y Y' ∧ (0 ≤ vI V' 156 142 ∧ vI V' 156 142 ≤ vI V 156 142 + 400 * d) ∧ (DE ps (yw Y) → DE ps (yw Y')) := by
  intro d
  induction d with
  | zero =>
    intro j fu M V Y tm K s hd hf h hX hD htm hK hs1 hs hc hc2
    have : j = n := by omega
    subst this
    refine ⟨M, V, Y, j, 0, Nat.le_refl _, lpN_end (b := fun s : Int × MM => b_X1_rest_15 ((0 : Nat) : Int) (j : Int) s.1 s.2) (by omega) ?_, lpN_end (b := fun s : Int × VV => b_X16_rest_15 (j : Int) s.1 s.2) (by omega) ?_, by rw [show tm + ((0 : Nat) : Int) = tm by omega]; exact h, .refl, fun _ _ _ => rfl, .refl, ⟨hc, by omega⟩, fun z => z⟩
    · dsimp only
      unfold b_X1_rest_15
      rw [if_neg (by omega)]
      rfl
    · dsimp only
      unfold b_X16_rest_15
      rw [if_neg (by omega)]
      rfl
  | succ d ih =>
    intro j fu M V Y tm K s hd hf h hX hD htm hK hs1 hs hc hc2
    obtain ⟨f, rfl⟩ : ∃ f, fu = f + 1 := ⟨fu - 1, by omega⟩
    obtain ⟨b, g1, g2⟩ := k_busy h hX hN (n := n) (j := j) (by omega) hn
    have cls : b_X1_rest_15 ((0 : Nat) : Int) (n : Int) (j : Int) M = if b = true then (f_X1_tick ((0 : Nat) : Int) M).bind fun r1 => cnt ((j : Int) + 1, r1.2) else xit (some ((j : Int), M)) := by
      unfold b_X1_rest_15
      rw [w32_nn (by omega), w32_nn (by omega), if_pos (by omega), ck_e hX.1.1, g1, Option.bind_some, w32_b2i]
      cases b with
      | true => rw [if_neg (by decide), if_pos rfl, ck_e hX.1.1]
      | false => rw [if_pos (by decide), if_neg (by decide)]; rfl
    cases b with
    | false =>
      rw [if_neg (by decide)] at cls g2
      exact ⟨M, V, Y, j, 0, Nat.zero_le _, lpN_xit (b := fun s : Int × MM => b_X1_rest_15 ((0 : Nat) : Int) (n : Int) s.1 s.2) (s := ((j : Int), M)) cls, lpN_xit (b := fun s : Int × VV => b_X16_rest_15 (n : Int) s.1 s.2) (s := ((j : Int), V)) g2, by rw [show tm + ((0 : Nat) : Int) = tm by omega]; exact h, .refl, fun _ _ _ => rfl, .refl, ⟨hc, by omega⟩, fun z => z⟩
    | true =>
      rw [if_pos rfl] at cls g2
      obtain ⟨hK1, hK2, hK3⟩ := ar1 hK
      clear hK
      have htm1 : tm < 1000000 := by omega
      have hs2 : s + 1 ≤ 70000 := by omega
      obtain ⟨M1, V1, Y1, e, a1, a2, a3, a4, a5, ⟨a6, a7⟩, a8, aD⟩ := k_tick h hX.1 hN hal htm1 hK1 hs2 hs hD (by omega)
      obtain ⟨M2, V2, Y2, e2, q, b0, b1, b2, b3, b4, b5, b6, ⟨b7, b8⟩, bD⟩ := ih (j + 1) f M1 V1 Y1 (tm + 1) (K + 1680) (s + 1) (by omega) (by omega) a3 (XC_fk a4 (TK_un h) rfl hX) (DnV_2 hD a5) (by omega) hK2 (by omega) (fun p hp => by have := hs p hp; omega) (by omega) (by omega)
      have cls1 : b_X1_rest_15 ((0 : Nat) : Int) (n : Int) (j : Int) M = cnt (((j + 1 : Nat) : Int), M1) := by rw [cls, a1]; rfl
      have ref1 : b_X16_rest_15 (n : Int) (j : Int) V = cnt (((j + 1 : Nat) : Int), V1) := by
        rw [g2]
        unfold j_X16_rest_34
        rw [a2]; rfl
      refine ⟨M2, V2, Y2, e2, q + 1, by omega, (lpN_cnt (b := fun s : Int × MM => b_X1_rest_15 ((0 : Nat) : Int) (n : Int) s.1 s.2) (s := ((j : Int), M)) cls1).trans b1, (lpN_cnt (b := fun s : Int × VV => b_X16_rest_15 (n : Int) s.1 s.2) (s := ((j : Int), V)) ref1).trans b2, ?_, a4.trans b4, fun a i z => (b5 a i z).trans (a5 a i z), a8.trans b6, ⟨b7, by omega⟩, fun z => bD (aD z)⟩
      rw [show tm + ((q + 1 : Nat) : Int) = tm + 1 + (q : Int) by omega, show K + 1680 * (q + 1) = K + 1680 + 1680 * q by rw [Nat.mul_succ, Nat.add_comm (1680 * q), ← Nat.add_assoc], show s + (q + 1) = s + 1 + q by omega]
      exact b3
theorem k_rest (h : TK M V m al N pa own sd ps sn tm tk as nb Lb LA dn KL K s Bt Y) (hX : XC M nb tk) (hN : 12 + N ≤ 44) (hal : al ≤ 8) (hx : w32 x1 = x1) (htm : tm + 1000 ≤ 1000000) (hK : K + 1680000 ≤ 129999999) (hsn : s + 1000 ≤ 70000) (hs : ∀ p, p < N → sn p ≤ tm) (hD : DnV V N dn) (h142 : 0 ≤ vI V 156 142 ∧ vI V 156 142 ≤ 100000000) :
    ∃ (M' : MM) (V' : VV) (Y' : Ys) (r : Int) (n : Nat), n ≤ 1000 ∧ f_X1_rest ((0 : Nat) : Int) x1 M = some (r, M') ∧ f_X16_rest x1 V = some (r, V') ∧ TK M' V' m al N pa own sd ps sn (tm + n) tk as nb Lb LA dn KL (K + 1680 * n) (s + n) Bt Y' ∧ FK FG M M' ∧ (∀ a i, kp2 a i → V' a i = V a i) ∧ YT Y Y' ∧ (0 ≤ vI V' 156 142 ∧ vI V' 156 142 ≤ vI V 156 142 + 400000) ∧ (DE ps (yw Y) → DE ps (yw Y')) := by
  have w1000 : w32 1000 = 1000 := by decide
  unfold f_X1_rest f_X16_rest
  rw [hx, w1000]
  by_cases c1 : x1 < 0
  · rw [if_pos c1, if_pos c1]
    exact ⟨M, V, Y, -1, 0, by omega, rfl, rfl, by rw [show tm + ((0 : Nat) : Int) = tm by omega]; exact h, .refl, fun _ _ _ => rfl, .refl, ⟨by omega, by omega⟩, fun z => z⟩
  rw [if_neg c1, if_neg c1]
  by_cases c2 : 1000 < x1
  · rw [if_pos c2, if_pos c2]
    exact ⟨M, V, Y, -1, 0, by omega, rfl, rfl, by rw [show tm + ((0 : Nat) : Int) = tm by omega]; exact h, .refl, fun _ _ _ => rfl, .refl, ⟨by omega, by omega⟩, fun z => z⟩
  rw [if_neg c2, if_neg c2]
  obtain ⟨n, hn⟩ : ∃ n : Nat, x1 = (n : Int) := ⟨x1.toNat, by omega⟩
  have hKn : K + 1680 * n ≤ 129999999 := Nat.le_trans (Nat.add_le_add_left (Nat.mul_le_mul_left 1680 (show n ≤ 1000 by omega)) K) hK
  obtain ⟨M', V', Y', e, q, a0, a1, a2, a3, a4, a5, a6, ⟨a7, a8⟩, aD⟩ := k_restN (n := n) hN hal (by omega) n 0 FU M V Y tm K s (by omega) (by unfold FU; omega) h hX hD (by omega) hKn (by omega) hs h142.1 (by omega)
  rw [hn]
  exact ⟨M', V', Y', (e : Int), q, by omega, a1, a2, a3, a4, a5, a6, ⟨a7, by omega⟩, aD⟩
end JREST2
