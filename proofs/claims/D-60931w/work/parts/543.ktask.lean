/-! what a task tells, both sides -/
section KTASK
variable {M : MM} {V : VV} {m al N p t nb k K s : Nat} {pa tk : Nat → Nat} {own : Nat → Ky} {sd ps sn : Nat → Int} {tm x1 x2 x : Int} {Bt : Nat × Nat} {as : Nat → Option Nat} {Y : Ys} {Lb : Nat → List Trm} {LA : Nat → List Nat} {dn : Nat → Int} {KL : List Ky}
theorem c_isTask (hX : XC M nb tk) (hn : nb ≤ 256) (hx : w32 x = x) : f_X1_isTask ((0 : Nat) : Int) x M = some (b2i (decide (0 ≤ x) && decide (x < (nb : Int)))) := by
  unfold f_X1_isTask
  rw [hx]
  by_cases c : x < 0
  · rw [if_pos c, show decide (0 ≤ x) = false from decide_eq_false (by omega)]; rfl
  · rw [if_neg c, gfi_e hX.1.1, Option.bind_some, hX.2.2.2.2.1, w32_nn (by omega), show decide (0 ≤ x) = true from decide_eq_true (by omega)]
    by_cases c2 : x < (nb : Int)
    · rw [if_pos c2, show decide (x < (nb : Int)) = true from decide_eq_true c2]; rfl
    · rw [if_neg c2, show decide (x < (nb : Int)) = false from decide_eq_false c2]; rfl
theorem k_task (h : TK M V m al N pa own sd ps sn tm tk as nb Lb LA dn KL K s Bt Y) (hX : XC M nb tk) (h91 : yv Y 156 91 = (nb : Int)) (h1 : w32 x1 = x1) (h2 : w32 x2 = x2) : ∃ r, f_X1_task ((0 : Nat) : Int) x1 x2 M = some r ∧ f_X16_task x1 x2 V = some r := by
  obtain ⟨pu, rf, pb, nS, B, k, ⟨h, lf, b0, eg, mn, sto, fa, Z, ev, oth, tn, hJ, hCT⟩, _⟩ := h
  have nb256 : nb ≤ 256 := hJ.1.1.2.2.2.1.1
  have it := c_isTask (x := x1) hX nb256 h1
  have sc := hJ.2.1.2.2.2.2.1
  have v91 : w32 (V 156 91) = (nb : Int) := (sc 156 91 (by unfold scA; omega)).trans h91
  have w4 : w32 4 = 4 := by decide
  have w1 : w32 1 = 1 := by decide
  have w2 : w32 2 = 2 := by decide
  have w3 : w32 3 = 3 := by decide
  unfold f_X1_task f_X16_task
  rw [ck_e hX.1.1, it, Option.bind_some, w32_b2i, h1, h2, v91, w32_nn (by omega), w4, w1, w2, w3]
  by_cases c : 0 ≤ x1 ∧ x1 < (nb : Int)
  · obtain ⟨r, hr⟩ : ∃ r : Nat, x1 = (r : Int) := ⟨x1.toNat, by omega⟩
    have rn : r < nb := by omega
    have e1 : (decide (0 ≤ x1) && decide (x1 < (nb : Int))) = true := by rw [decide_eq_true c.1, decide_eq_true c.2]; rfl
    rw [e1, if_neg (show ¬ b2i true = 0 by decide), if_neg (show ¬ x1 < 0 by omega), if_pos c.2, hr, gfr_e hX.1.1, Option.bind_some, hX.2.1.2.2.2.2.1, lar_e (k := 452) (l := 256) (j := r) hX.2.2.1.2.2.2.2 (by decide) (by decide) (w32_nn (by omega)) (by omega), Option.bind_some, hX.2.2.2.2.2 r rn]
    obtain ⟨t1, t2, t3, t4, t5, t6, _⟩ := hJ.1.1.1.2.2.2.1 r rn
    have k26 : (kd M (tk r)).1 = 26 := by rw [t1]
    have em := hJ.1.1.2.2.2.2.1 r rn
    have s5 : ∀ a, 265 ≤ a → a ≤ 269 → vI V a r = vI (ys Y) a r := fun a y1 y2 => sc a r (by unfold scA; omega)
    rw [gfi_e k26, gfi_e k26, gfi_e k26, gfi_e k26, gfi_e k26, Option.bind_some, Option.bind_some, Option.bind_some, Option.bind_some, Option.bind_some, t2, t3, t4, t5, t6, em]
    rw [l2_n (a := 265) (show r < 256 by omega) (by decide), l2_n (a := 266) (show r < 256 by omega) (by decide), l2_n (a := 267) (show r < 256 by omega) (by decide), l2_n (a := 268) (show r < 256 by omega) (by decide), l2_n (a := 269) (show r < 256 by omega) (by decide), Option.bind_some, Option.bind_some, Option.bind_some, Option.bind_some, Option.bind_some, s5 265 (by decide) (by decide), s5 266 (by decide) (by decide), s5 267 (by decide) (by decide), s5 268 (by decide) (by decide), s5 269 (by decide) (by decide)]
    unfold j_X16_task_84 j_X16_task_21 swt
    by_cases d : 0 ≤ x2 ∧ x2 ≤ 4
    · have q : x2 = 0 ∨ x2 = 1 ∨ x2 = 2 ∨ x2 = 3 ∨ x2 = 4 := by omega
      rcases q with q | q | q | q | q <;> rw [q] <;> exact ⟨_, rfl, rfl⟩
    · refine ⟨-1, ?_, ?_⟩
      · rw [if_neg (fun z => d ⟨z.1, by
          have z2 := z.2
          simp only [List.length_cons, List.length_nil] at z2
          omega⟩)]
      · by_cases d2 : x2 < 0
        · rw [if_pos d2]
        · rw [if_neg d2, if_pos (by omega)]
  · have e1 : (decide (0 ≤ x1) && decide (x1 < (nb : Int))) = false := by
      cases e : (decide (0 ≤ x1) && decide (x1 < (nb : Int))) with
      | false => rfl
      | true => rw [Bool.and_eq_true, decide_eq_true_eq, decide_eq_true_eq] at e; exact absurd e c
    refine ⟨-1, ?_, ?_⟩
    · rw [e1, if_pos (show b2i false = 0 by decide)]
    · by_cases d : x1 < 0
      · rw [if_pos d]; rfl
      · rw [if_neg d, if_neg (by omega)]; rfl
end KTASK
