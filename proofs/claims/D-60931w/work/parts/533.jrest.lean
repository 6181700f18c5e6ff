/-! the class itself; whether it rests, both sides -/
def XC (M : MM) (nb : Nat) (tk : Nat → Nat) : Prop :=
  X0 M ∧ (rR M 0 2 = ((1 : Nat) : Int) ∧ rR M 0 3 = ((2 : Nat) : Int) ∧ rR M 0 4 = ((3 : Nat) : Int) ∧ rR M 0 6 = ((4 : Nat) : Int) ∧ rR M 0 7 = ((5 : Nat) : Int) ∧ rR M 0 9 = ((6 : Nat) : Int) ∧ rR M 0 10 = ((10 : Nat) : Int) ∧ rR M 0 11 = ((12 : Nat) : Int) ∧ rR M 0 12 = ((14 : Nat) : Int)) ∧ (kd M 1 = (385, 20) ∧ kd M 2 = (401, 500) ∧ kd M 3 = (417, 12) ∧ kd M 4 = (435, 12) ∧ kd M 5 = (452, 256)) ∧ (∀ i, i < 12 → rR M 4 i = ((48 + 9 * i : Nat) : Int)) ∧ rI M 0 8 = (nb : Int) ∧ ∀ r, r < nb → rR M 5 r = ((tk r : Nat) : Int)
def gN (Y : Ys) (n : Nat) : Nat := sumN (fun t => if yv Y 226 t = 0 then 0 else 1) n
section JREST
variable {S : Nat → Bool} {M M1 : MM} {V V1 W sc : VV} {m al N p t t' nb oth Z k K s : Nat} {pa tk : Nat → Nat} {own : Nat → Ky} {sd ps sn pu rf : Nat → Int} {tm x1 : Int} {lf : Nat → Nat} {b0 B Bt : Nat × Nat} {h : Gh} {eg : EG} {pb as : Nat → Option Nat} {mn sto : Nat → Int} {fa : Nat → Nat} {Y : Ys} {Lb : Nat → List Trm} {LA : Nat → List Nat} {dn : Nat → Int} {ev tn nS : Nat → Nat} {KL : List Ky}
theorem XC_fk (f : FK S M M1) (hu : UN M) (hs : S 8 = false) (hX : XC M nb tk) : XC M1 nb tk := by
  obtain ⟨h0, ⟨a1, a2, a3, a4, a5, a6, a7, a8, a9⟩, ⟨k1, k2, k3, k4, k5⟩, h4, h5, h6⟩ := hX
  have l : 0 < nN M := hu.lt (by rw [h0.1]; decide)
  have m0 : S (mo M 0) = false := by rw [mo_cl1 h0.1 (by decide) (by decide)]; exact hs
  have lt : ∀ a k l, kd M a = (k, l) → k ≠ 63 → a < nN M := fun a k l e hk => hu.lt (by rw [e]; exact hk)
  have l4 := lt 4 435 12 k4 (by decide)
  have l5 := lt 5 452 256 k5 (by decide)
  have m4 : S (mo M 4) = false := by rw [mo_ar k4 (by decide) (by decide)]; exact hs
  have m5 : S (mo M 5) = false := by rw [mo_ar k5 (by decide) (by decide)]; exact hs
  exact ⟨X0_fk f hu hs h0, ⟨by rw [f.rR l m0]; exact a1, by rw [f.rR l m0]; exact a2, by rw [f.rR l m0]; exact a3, by rw [f.rR l m0]; exact a4, by rw [f.rR l m0]; exact a5, by rw [f.rR l m0]; exact a6, by rw [f.rR l m0]; exact a7, by rw [f.rR l m0]; exact a8, by rw [f.rR l m0]; exact a9⟩, ⟨by rw [f.kd (lt 1 385 20 k1 (by decide))]; exact k1, by rw [f.kd (lt 2 401 500 k2 (by decide))]; exact k2, by rw [f.kd (lt 3 417 12 k3 (by decide))]; exact k3, by rw [f.kd l4]; exact k4, by rw [f.kd l5]; exact k5⟩, fun i hi => by rw [f.rR l4 m4]; exact h4 i hi, by rw [f.rI l m0]; exact h5, fun r hr => by rw [f.rR l5 m5]; exact h6 r hr⟩
theorem g01 (n : Nat) : gN Y n ≤ n := by
  have := sumN_le (f := fun t => if yv Y 226 t = 0 then 0 else 1) (b := 1) n (fun i _ => by split <;> omega)
  unfold gN; omega
/-- the class counts its callers' works -/
theorem c_going (hX : XC M nb tk) (hL : LksC M m (12 + N) pa (yl Y) lf eg) (hW : WksC M (12 + N) pa tk pb as (ys Y)) (h6 : ∀ t, t < 12 → yv Y 226 t = 0 ∨ yv Y 226 t = 1) : f_X1_going ((0 : Nat) : Int) M = some ((gN Y 12 : Nat) : Int) := by
  have hw : ∀ t, t < 12 → wa pa t = 48 + 9 * t := fun t ht => by unfold wa; rw [if_pos ht]
  have step : ∀ i, i < 12 → b_X1_going_4 ((0 : Nat) : Int) ((gN Y i : Nat) : Int) (i : Int) M = cnt (((gN Y (i + 1) : Nat) : Int), ((i + 1 : Nat) : Int)) := fun i hi => by
    have k11 := (hL.2.2.1 i (by omega)).1.1
    have g6 := (hW i (by omega)).2.2.1
    rw [hw i hi] at k11 g6
    unfold b_X1_going_4
    rw [w32_nn (by omega), if_pos (by show ((i : Nat) : Int) < 12; omega), gfr_e hX.1.1, Option.bind_some, hX.2.1.2.2.2.1, lar_e (k := 435) (l := 12) (j := i) hX.2.2.1.2.2.2.1 (by decide) (by decide) (w32_nn (by omega)) hi, Option.bind_some, hX.2.2.2.1 i hi, gfi_e k11, Option.bind_some, w32_rI, g6]
    have e : gN Y (i + 1) = gN Y i + if yv Y 226 i = 0 then 0 else 1 := rfl
    by_cases c : yv Y 226 i = 0
    · rw [if_pos (show vI (ys Y) 226 i = 0 from c)]
      rw [if_pos c] at e
      rw [e]; rfl
    · rw [if_neg (show ¬ vI (ys Y) 226 i = 0 from c)]
      rw [if_neg c] at e
      rw [e]; rfl
  have lp := lp_seq (b := fun s : Int × Int => b_X1_going_4 ((0 : Nat) : Int) s.1 s.2 M) (x := some ((gN Y 12 : Nat) : Int)) (fun i => (((gN Y i : Nat) : Int), (i : Int))) 12 (fun i hi => step i hi) (by
    dsimp only
    unfold b_X1_going_4
    rw [if_neg (by decide)]) FU 0 (by omega) (by unfold FU; omega)
  exact lp
/-- the reference counts all works -/
theorem v_going (h : VY V m al N own sd ps sn pu rf tm Lb oth Z ev tn Y) : f_X16_going V = some ((gN Y 44 : Nat) : Int) := by
  have step : ∀ i, i < 44 → b_X16_going_4 ((gN Y i : Nat) : Int) (i : Int) V = cnt (((gN Y (i + 1) : Nat) : Int), ((i + 1 : Nat) : Int)) := fun i hi => by
    unfold b_X16_going_4
    rw [w32_nn (by omega), if_pos (by show ((i : Nat) : Int) < 44; omega), l2_n hi (by decide), Option.bind_some, w32_vI, h.2.2.2.2.1 226 i (by unfold scA; omega)]
    have e : gN Y (i + 1) = gN Y i + if yv Y 226 i = 0 then 0 else 1 := rfl
    by_cases c : yv Y 226 i = 0
    · rw [if_pos (show vI (ys Y) 226 i = 0 from c)]
      rw [if_pos c] at e
      rw [e]; rfl
    · rw [if_neg (show ¬ vI (ys Y) 226 i = 0 from c)]
      rw [if_neg c] at e
      rw [e]; rfl
  have lp := lp_seq (b := fun s : Int × Int => b_X16_going_4 s.1 s.2 V) (x := some ((gN Y 44 : Nat) : Int)) (fun i => (((gN Y i : Nat) : Int), (i : Int))) 44 (fun i hi => step i hi) (by
    dsimp only
    unfold b_X16_going_4
    rw [if_neg (by decide)]) FU 0 (by omega) (by unfold FU; omega)
  exact lp
theorem gN_mono {i : Nat} : ∀ d, gN Y i ≤ gN Y (i + d)
  | 0 => Nat.le_refl _
  | d + 1 => Nat.le_trans (gN_mono d) (Nat.le_add_right _ _)
theorem gN_tail {n : Nat} : ∀ d, (∀ t, n ≤ t → t < n + d → yv Y 226 t = 0) → gN Y (n + d) = gN Y n
  | 0, _ => rfl
  | d + 1, h => by
    have e : gN Y (n + (d + 1)) = gN Y (n + d) + if yv Y 226 (n + d) = 0 then 0 else 1 := rfl
    rw [e, if_pos (h (n + d) (by omega) (by omega)), gN_tail d (fun t h1 h2 => h t h1 (by omega))]
    rfl
/-- whether the class is busy -/
theorem c_isBusy (hX : XC M nb tk) (hJ : JX M V m al N pa own sd ps sn pu rf tm tk pb as nb Lb LA dn KL k h lf b0 eg mn sto fa Z ev oth tn Y) (hN : 12 + N ≤ 44) : f_X1_isBusy ((0 : Nat) : Int) M = some (b2i (decide (0 < (wfl (yw Y)).length) || decide (0 < gN Y 44))) := by
  have hC := hJ.1.1.1.1
  have w01 : ∀ t, t < 44 → yv Y 226 t = 0 ∨ yv Y 226 t = 1 := fun t ht => (hJ.2.2.1 t ht).1.1
  have go := c_going (N := N) hX hJ.1.1.1.2.1 hJ.1.1.1.2.2.1 (fun t ht => w01 t (by omega))
  have f4 := hC.2.1.2.2.2.2.1
  have fl4 : (wfl (yw Y)).length ≤ 400 := by obtain ⟨L, hP, _⟩ := hJ.2.1.1; exact hP.1.2.2.2.2.2.1
  have bg : ∀ p, p < N → rI M (pa p + 17) 6 = yv Y 226 (12 + p) ∧ (kd M (pa p + 17)).1 = 11 := fun p hp => by
    have e : wa pa (12 + p) = pa p + 17 := by unfold wa; rw [if_neg (by omega), show 12 + p - 12 = p by omega]
    have a := (hJ.1.1.1.2.2.1 (12 + p) (by omega)).2.2.1
    have b := (hJ.1.1.1.2.1.2.2.1 (12 + p) (by omega)).1.1
    rw [e] at a b
    exact ⟨a, b⟩
  have step : ∀ (b : Bool) (i : Nat), i < N → b_X1_isBusy_25 ((0 : Nat) : Int) (b2i b) (i : Int) M = cnt (b2i (b || decide (yv Y 226 (12 + i) ≠ 0)), ((i + 1 : Nat) : Int)) := fun b i hi => by
    obtain ⟨g1, g2⟩ := bg i hi
    have pe := (hC.2.2.2.2.1.2.2 i hi).1
    unfold b_X1_isBusy_25
    rw [gfr_e hX.1.1, Option.bind_some, hX.1.2.1, gfi_e (by rw [hC.1.1.1]), Option.bind_some, hC.1.2.2.1, w32_nn (by omega), w32_nn (by omega), if_pos (by omega), w32_b2i]
    cases b with
    | true => rw [if_neg (by decide)]; rfl
    | false =>
      rw [if_pos (by decide), Option.bind_some, gfr_e (by rw [hC.1.1.1]), Option.bind_some, hC.1.1.2.2.1.2.2.2.1, lar_e (k := 247) (l := 32) (j := i) hC.1.1.2.2.2.1 (by decide) (by decide) (w32_nn (by omega)) (by omega), Option.bind_some, hC.1.2.2.2.2.1 i hi, gfr_e (by rw [pe.1]), Option.bind_some, pe.2.2.1.2.2.2.2.2.2, gfi_e g2, Option.bind_some, w32_rI, g1]
      by_cases c : yv Y 226 (12 + i) = 0
      · rw [if_pos c, decide_eq_false (fun z => z c)]; rfl
      · rw [if_neg c, decide_eq_true c]; rfl
  have loop : ∀ d i fu (b : Bool), d + i = N → d < fu → lpN (fun s : Int × Int => b_X1_isBusy_25 ((0 : Nat) : Int) s.1 s.2 M) fu (b2i b, (i : Int)) = some (b2i (b || decide (gN Y (12 + i) < gN Y (12 + N)))) := by
    intro d
    induction d with
    | zero =>
      intro i fu b hd hf
      have : i = N := by omega
      subst this
      rw [decide_eq_false (Nat.lt_irrefl _), Bool.or_false]
      refine lpN_end (b := fun s : Int × Int => b_X1_isBusy_25 ((0 : Nat) : Int) s.1 s.2 M) (by omega) ?_
      dsimp only
      unfold b_X1_isBusy_25
      rw [gfr_e hX.1.1, Option.bind_some, hX.1.2.1, gfi_e (by rw [hC.1.1.1]), Option.bind_some, hC.1.2.2.1, if_neg (by omega), bz_e (by cases b <;> decide)]
    | succ d ih =>
      intro i fu b hd hf
      obtain ⟨f, rfl⟩ : ∃ f, fu = f + 1 := ⟨fu - 1, by omega⟩
      refine (lpN_cnt (b := fun s : Int × Int => b_X1_isBusy_25 ((0 : Nat) : Int) s.1 s.2 M) (s := (b2i b, (i : Int))) (step b i (by omega))).trans ?_
      rw [ih (i + 1) f _ (by omega) (by omega), Bool.or_assoc]
      congr 3
      have e : gN Y (12 + (i + 1)) = gN Y (12 + i) + if yv Y 226 (12 + i) = 0 then 0 else 1 := rfl
      by_cases c : yv Y 226 (12 + i) = 0
      · rw [if_pos c] at e
        rw [decide_eq_false (fun z => z c), Bool.false_or, e]
        rfl
      · rw [if_neg c] at e
        have mo := gN_mono (Y := Y) (i := 12 + (i + 1)) d
        rw [show 12 + (i + 1) + d = 12 + N by omega] at mo
        rw [decide_eq_true c, Bool.true_or, decide_eq_true (show gN Y (12 + i) < gN Y (12 + N) by omega)]
  have tail : ∀ b : Bool, j_X1_isBusy_22 ((0 : Nat) : Int) (b2i b) M = some (b2i (b || decide (gN Y (12 + 0) < gN Y (12 + N)))) := fun b => loop N 0 FU b (by omega) (by unfold FU; omega)
  have tt : j_X1_isBusy_17 ((0 : Nat) : Int) M = some 1 := by
    unfold j_X1_isBusy_17
    have := tail true
    rw [Bool.true_or] at this
    exact this
  have g12 := g01 (Y := Y) 12
  have gt : gN Y 44 = gN Y (12 + N) := by
    have := gN_tail (Y := Y) (n := 12 + N) (32 - N) (fun t h1 h2 => hJ.2.2.2.1 t (by omega) h1)
    rw [show 12 + N + (32 - N) = 44 by omega] at this
    exact this
  have mo := gN_mono (Y := Y) (i := 12) N
  rw [gt]
  unfold f_X1_isBusy
  rw [gfr_e hX.1.1, Option.bind_some, hX.1.2.2, gfi_e (by rw [hC.2.1.1.1]), Option.bind_some, f4, w32_nn (by omega), ck_e hX.1.1, go, Option.bind_some, w32_nn (by omega)]
  by_cases c1 : 0 < (wfl (yw Y)).length
  · rw [if_pos (by omega), tt, decide_eq_true c1]; rfl
  · rw [if_neg (by omega), decide_eq_false c1, Bool.false_or]
    by_cases c2 : 0 < gN Y 12
    · rw [if_pos (by omega), tt, decide_eq_true (show 0 < gN Y (12 + N) by omega)]; rfl
    · rw [if_neg (by omega)]
      have t0 := tail false
      rw [Bool.false_or, show gN Y (12 + 0) = 0 by show gN Y 12 = 0; omega] at t0
      exact t0
end JREST
