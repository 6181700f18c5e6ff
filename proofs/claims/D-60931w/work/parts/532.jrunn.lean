/-! ticks one behind the other, both sides -/
def TK (M : MM) (V : VV) (m al N : Nat) (pa : Nat → Nat) (own : Nat → Ky) (sd ps sn : Nat → Int) (tm : Int) (tk : Nat → Nat) (as : Nat → Option Nat) (nb : Nat) (Lb : Nat → List Trm) (LA : Nat → List Nat) (dn : Nat → Int) (KL : List Ky) (K s : Nat) (Bt : Nat × Nat) (Y : Ys) : Prop :=
  ∃ pu rf pb nS B k, JD M V m al N pa own sd ps sn pu rf tm tk pb as nb Lb LA dn KL k K nS B Y ∧ (∀ t, t < 44 → nS t ≤ s) ∧ (B.1 + 2 * ptN pb (12 + N) = Bt.1 ∧ B.2 + 71 * ptN pb (12 + N) = Bt.2) ∧ ∀ q, pu q ≤ tm ∧ rf q ≤ tm
section JRUNN
variable {S : Nat → Bool} {M M1 : MM} {V V1 W sc : VV} {m al N p t t' nb k K s : Nat} {pa tk : Nat → Nat} {own : Nat → Ky} {sd ps sn pu rf : Nat → Int} {tm x1 : Int} {B Bt : Nat × Nat} {pb as : Nat → Option Nat} {Y : Ys} {Lb : Nat → List Trm} {LA : Nat → List Nat} {dn : Nat → Int} {nS : Nat → Nat} {KL : List Ky}
theorem TK_un (h : TK M V m al N pa own sd ps sn tm tk as nb Lb LA dn KL K s Bt Y) : UN M := by
  obtain ⟨pu, rf, pb, nS, B, k, hJ, _⟩ := h
  exact JD_un hJ
theorem TK_x (h : TK M V m al N pa own sd ps sn tm tk as nb Lb LA dn KL K s Bt Y) (f : FrS XO V W) : TK M W m al N pa own sd ps sn tm tk as nb Lb LA dn KL K s Bt Y := by
  obtain ⟨pu, rf, pb, nS, B, k, ⟨h, lf, b0, eg, mn, sto, fa, Z, ev, oth, tn, hJ, hCT⟩, h2⟩ := h
  exact ⟨pu, rf, pb, nS, B, k, ⟨h, lf, b0, eg, mn, sto, fa, Z, ev, oth, tn, JX_x hJ f, hCT⟩, h2⟩
theorem k_tick (h : TK M V m al N pa own sd ps sn tm tk as nb Lb LA dn KL K s Bt Y) (hX : X0 M) (hN : 12 + N ≤ 44) (hal : al ≤ 8) (htm : tm < 1000000) (hK : K + 1680 ≤ 129999999) (hsn : s + 1 ≤ 70000) (hs : ∀ p, p < N → sn p ≤ tm) (hD : DnV V N dn) (h142 : 0 ≤ vI V 156 142 ∧ vI V 156 142 + 401 < 2147483648) :
    ∃ (M' : MM) (V' : VV) (Y' : Ys) (d : Nat), f_X1_tick ((0 : Nat) : Int) M = some ((d : Int), M') ∧ f_X16_tick V = some V' ∧ TK M' V' m al N pa own sd ps sn (tm + 1) tk as nb Lb LA dn KL (K + 1680) (s + 1) Bt Y' ∧ FK FG M M' ∧ (∀ a i, kp2 a i → V' a i = V a i) ∧ (d ≤ 400 ∧ vI V' 156 142 = vI V 156 142 + d) ∧ YT Y Y' ∧ (DE ps (yw Y) → DE ps (yw Y')) := by
  obtain ⟨pu, rf, pb, nS, B, k, hJ, h2, ⟨h3, h4⟩, h5⟩ := h
  obtain ⟨M', V', Y', pu', rf', pb', nS', B', d, a1, a2, a3, a4, a5, a6, a7, a8, a9, aD, aT⟩ := j_tick hJ hX hN hal htm hK (fun t ht => by have := h2 t ht; omega) hs hD h142
  exact ⟨M', V', Y', d, a1, a2, ⟨pu', rf', pb', nS', B', 400, a3, fun t ht => by have := h2 t ht; have := (a8 t).2; omega, ⟨by omega, by omega⟩, fun q => by have u := aT q; have v := h5 q; exact ⟨by omega, by omega⟩⟩, a4, a5, a6, a7, aD⟩
theorem DnV_2 (h : DnV V N dn) (f : ∀ a i, kp2 a i → W a i = V a i) : DnV W N dn := fun p hp => by
  obtain ⟨lim, a, b, c⟩ := h p hp
  refine ⟨lim, a, b, ?_⟩
  rw [← c]
  show w32 _ = w32 _
  rw [f 173 p (by unfold kp2; omega)]
theorem ar1 {K d : Nat} (h : K + 1680 * (d + 1) ≤ 129999999) : K + 1680 ≤ 129999999 ∧ K + 1680 + 1680 * d ≤ 129999999 ∧ K + 1680 * (d + 1) = K + 1680 + 1680 * d := by
  rw [Nat.mul_succ] at h ⊢
  generalize 1680 * d = x at h ⊢
  exact ⟨Nat.le_trans (Nat.add_le_add_left (Nat.le_add_left 1680 x) K) h, by rw [Nat.add_assoc, Nat.add_comm 1680 x]; exact h, by rw [Nat.add_assoc, Nat.add_comm 1680]⟩
/-- so many ticks -/
theorem k_runN (hN : 12 + N ≤ 44) (hal : al ≤ 8) {n : Nat} (hn : n ≤ 1000) : ∀ (d j c fu : Nat) (M : MM) (V : VV) (Y : Ys) (tm : Int) (K s : Nat), d + j = n → d < fu → TK M V m al N pa own sd ps sn tm tk as nb Lb LA dn KL K s Bt Y → X0 M → DnV V N dn → (tm + d ≤ 1000000) → K + 1680 * d ≤ 129999999 → s + d ≤ 70000 → (∀ p, p < N → sn p ≤ tm) → vI V 156 142 = (c : Int) → c + 400 * d ≤ 1000000 →
    ∃ (M' : MM) (V' : VV) (Y' : Ys) (e : Nat), lpN (fun s : Int × Int × MM => b_X1_run_17 ((0 : Nat) : Int) (n : Int) s.1 s.2.1 s.2.2) fu ((c : Int), (j : Int), M) = some ((e : Int), M') ∧ lpN (fun s : Int × VV => b_X16_run_20 (n : Int) s.1 s.2) fu ((j : Int), V) = some ((e : Int), V') ∧ TK M' V' m al N pa own sd ps sn (tm + d) tk as nb Lb LA dn KL (K + 1680 * d) (s + d) Bt Y' ∧ FK FG M M' ∧ (∀ a i, kp2 a i → V' a i = V a i) ∧ YT Y Y' ∧ (vI V' 156 142 = (e : Int) ∧ e ≤ c + 400 * d) ∧ (DE ps (yw Y) → DE ps (yw Y')) := by
  intro d
  induction d with
  | zero =>
    intro j c fu M V Y tm K s hd hf h hX hD htm hK hs1 hs hc hc2
    have : j = n := by omega
    subst this
    refine ⟨M, V, Y, c, lpN_end (b := fun s : Int × Int × MM => b_X1_run_17 ((0 : Nat) : Int) (j : Int) s.1 s.2.1 s.2.2) (by omega) ?_, lpN_end (b := fun s : Int × VV => b_X16_run_20 (j : Int) s.1 s.2) (by omega) ?_, by rw [show tm + ((0 : Nat) : Int) = tm by omega]; exact h, .refl, fun _ _ _ => rfl, .refl, ⟨hc, by omega⟩, fun z => z⟩
    · dsimp only
      unfold b_X1_run_17
      rw [if_neg (by omega)]
    · dsimp only
      unfold b_X16_run_20
      rw [if_neg (by omega), show w32 (V 156 142) = (c : Int) from hc]
  | succ d ih =>
    intro j c fu M V Y tm K s hd hf h hX hD htm hK hs1 hs hc hc2
    obtain ⟨f, rfl⟩ : ∃ f, fu = f + 1 := ⟨fu - 1, by omega⟩
    obtain ⟨hK1, hK2, hK3⟩ := ar1 hK
    clear hK
    have htm1 : tm < 1000000 := by omega
    have hs2 : s + 1 ≤ 70000 := by omega
    have hc3 : 0 ≤ vI V 156 142 ∧ vI V 156 142 + 401 < 2147483648 := by rw [hc]; omega
    obtain ⟨M1, V1, Y1, e, a1, a2, a3, a4, a5, ⟨a6, a7⟩, a8, aD⟩ := k_tick h hX hN hal htm1 hK1 hs2 hs hD hc3
    obtain ⟨M2, V2, Y2, e2, b1, b2, b3, b4, b5, b6, ⟨b7, b8⟩, bD⟩ := ih (j + 1) (c + e) f M1 V1 Y1 (tm + 1) (K + 1680) (s + 1) (by omega) (by omega) a3 (X0_fk a4 (TK_un h) rfl hX) (DnV_2 hD a5) (by omega) hK2 (by omega) (fun p hp => by have := hs p hp; omega) (by rw [a7, hc]; omega) (by omega)
    have cls : b_X1_run_17 ((0 : Nat) : Int) (n : Int) (c : Int) (j : Int) M = cnt (((c + e : Nat) : Int), ((j + 1 : Nat) : Int), M1) := by
      unfold b_X1_run_17
      rw [w32_nn (by omega), w32_nn (by omega), if_pos (by omega), ck_e hX.1, a1]
      rfl
    have ref : b_X16_run_20 (n : Int) (j : Int) V = cnt (((j + 1 : Nat) : Int), V1) := by
      unfold b_X16_run_20
      rw [w32_nn (by omega), w32_nn (by omega), if_pos (by omega), a2]
      rfl
    refine ⟨M2, V2, Y2, e2, (lpN_cnt (b := fun s : Int × Int × MM => b_X1_run_17 ((0 : Nat) : Int) (n : Int) s.1 s.2.1 s.2.2) (s := ((c : Int), (j : Int), M)) cls).trans b1, (lpN_cnt (b := fun s : Int × VV => b_X16_run_20 (n : Int) s.1 s.2) (s := ((j : Int), V)) ref).trans b2, ?_, a4.trans b4, fun a i z => (b5 a i z).trans (a5 a i z), a8.trans b6, ⟨b7, by omega⟩, fun z => bD (aD z)⟩
    rw [show tm + ((d + 1 : Nat) : Int) = tm + 1 + (d : Int) by omega, hK3, show s + (d + 1) = s + 1 + d by omega]
    exact b3
theorem k_run (h : TK M V m al N pa own sd ps sn tm tk as nb Lb LA dn KL K s Bt Y) (hX : X0 M) (hN : 12 + N ≤ 44) (hal : al ≤ 8) (hx : w32 x1 = x1) (htm : tm + 1000 ≤ 1000000) (hK : K + 1680000 ≤ 129999999) (hsn : s + 1000 ≤ 70000) (hs : ∀ p, p < N → sn p ≤ tm) (hD : DnV V N dn) (h142 : 0 ≤ vI V 156 142) :
    ∃ (M' : MM) (V' : VV) (Y' : Ys) (r : Int) (n : Nat), n ≤ 1000 ∧ f_X1_run ((0 : Nat) : Int) x1 M = some (r, M') ∧ f_X16_run x1 V = some (r, V') ∧ TK M' V' m al N pa own sd ps sn (tm + n) tk as nb Lb LA dn KL (K + 1680 * n) (s + n) Bt Y' ∧ FK FG M M' ∧ (∀ a i, kp2 a i → V' a i = V a i) ∧ YT Y Y' ∧ (0 ≤ vI V' 156 142 ∧ vI V' 156 142 ≤ vI V 156 142 + 400000) ∧ (DE ps (yw Y) → DE ps (yw Y')) := by
  have w1000 : w32 1000 = 1000 := by decide
  unfold f_X1_run f_X16_run
  rw [hx, w1000]
  by_cases c1 : x1 < 0
  · rw [if_pos c1, if_pos c1]
    exact ⟨M, V, Y, -1, 0, by omega, rfl, rfl, by rw [show tm + ((0 : Nat) : Int) = tm by omega]; exact h, .refl, fun _ _ _ => rfl, .refl, ⟨by omega, by omega⟩, fun z => z⟩
  rw [if_neg c1, if_neg c1]
  by_cases c2 : 1000 < x1
  · rw [if_pos c2, if_pos c2]
    exact ⟨M, V, Y, -1, 0, by omega, rfl, rfl, by rw [show tm + ((0 : Nat) : Int) = tm by omega]; exact h, .refl, fun _ _ _ => rfl, .refl, ⟨by omega, by omega⟩, fun z => z⟩
  rw [if_neg c2, if_neg c2, p2_e, Option.bind_some]
  obtain ⟨n, hn⟩ : ∃ n : Nat, x1 = (n : Int) := ⟨x1.toNat, by omega⟩
  have fx : FrS XO V (st2 V 156 142 0) := FrS_st (by unfold XO; omega)
  have f2 : ∀ a i, kp2 a i → st2 V 156 142 0 a i = V a i := fun a i z => st2_ne (by unfold kp2 at z; omega)
  obtain ⟨M', V', Y', e, a1, a2, a3, a4, a5, a6, ⟨a7, a8⟩, aD⟩ := k_runN (n := n) hN hal (by omega) n 0 0 FU M (st2 V 156 142 0) Y tm K s (by omega) (by unfold FU; omega) (TK_x h fx) hX (DnV_2 hD f2) (by omega) (by omega) (by omega) hs (by rw [vI_eq rfl]; rfl) (by omega)
  rw [hn]
  exact ⟨M', V', Y', (e : Int), n, by omega, a1, a2, a3, a4, fun a i z => (a5 a i z).trans (f2 a i z), a6, ⟨by omega, by omega⟩, aD⟩
end JRUNN
