/-! what is counted, both sides -/
section KLOOK
variable {M : MM} {V : VV} {m al N p t nb k K s : Nat} {pa tk : Nat → Nat} {own : Nat → Ky} {sd ps sn : Nat → Int} {tm x1 x2 x : Int} {Bt : Nat × Nat} {as : Nat → Option Nat} {Y : Ys} {Lb : Nat → List Trm} {LA : Nat → List Nat} {dn : Nat → Int} {KL : List Ky}
theorem k_look (h : TK M V m al N pa own sd ps sn tm tk as nb Lb LA dn KL K s Bt Y) (hX : XC M nb tk) (hN : 12 + N ≤ 44) (h91 : yv Y 156 91 = (nb : Int)) (h1 : w32 x1 = x1) : ∃ r, f_X1_look ((0 : Nat) : Int) x1 M = some r ∧ f_X16_look x1 V = some r := by
  obtain ⟨pu, rf, pb, nS, B, k, ⟨h, lf, b0, eg, mn, sto, fa, Z, ev, oth, tn, hJ, hCT⟩, _⟩ := h
  have hC := hJ.1.1.1.1
  obtain ⟨L, hP, hL⟩ := hJ.2.1.1
  have sc := hJ.2.1.2.2.2.2.1
  have v91 : w32 (V 156 91) = (nb : Int) := (sc 156 91 (by unfold scA; omega)).trans h91
  have k7 : (kd M 19).1 = 7 := by rw [hC.2.1.1.1]
  have k6 : (kd M 18).1 = 6 := by rw [hC.1.1.1]
  have go := c_going (N := N) hX hJ.1.1.1.2.1 hJ.1.1.1.2.2.1 (fun t ht => (hJ.2.2.1 t (by omega)).1.1)
  have step : ∀ i, i < 12 → b_X16_look_4 x1 ((gN Y i : Nat) : Int) (i : Int) V = cnt (((gN Y (i + 1) : Nat) : Int), ((i + 1 : Nat) : Int)) := fun i hi => by
    unfold b_X16_look_4
    rw [w32_nn (by omega), if_pos (by show ((i : Nat) : Int) < 12; omega), l2_n (show i < 44 by omega) (by decide), Option.bind_some, w32_vI, sc 226 i (by unfold scA; omega)]
    have e : gN Y (i + 1) = gN Y i + if yv Y 226 i = 0 then 0 else 1 := rfl
    by_cases c : yv Y 226 i = 0
    · rw [if_pos (show vI (ys Y) 226 i = 0 from c)]
      rw [if_pos c] at e
      rw [e]; rfl
    · rw [if_neg (show ¬ vI (ys Y) 226 i = 0 from c)]
      rw [if_neg c] at e
      rw [e]; rfl
  have lp := lp_seq (b := fun s : Int × Int => b_X16_look_4 x1 s.1 s.2 V) (x := j_X16_look_33 x1 ((gN Y 12 : Nat) : Int) V) (fun i => (((gN Y i : Nat) : Int), (i : Int))) 12 (fun i hi => step i hi) (by
    dsimp only
    unfold b_X16_look_4
    rw [if_neg (by decide)]) FU 0 (by omega) (by unfold FU; omega)
  have ref : f_X16_look x1 V = j_X16_look_33 x1 ((gN Y 12 : Nat) : Int) V := lp
  rw [ref]
  have v10 : l2 162 11 10 V = some (wst (yw Y) 10) := by rw [← hP.1.1 10 (by decide)]; exact l2_n (j := 10) (by decide) (by decide)
  have c10 : f_X7_setting ((19 : Nat) : Int) 10 M = some (wst (yw Y) 10) := e_setting (k := 10) hC.2.1 (by decide)
  have w1 : w32 1 = 1 := by decide
  have w2 : w32 2 = 2 := by decide
  have w3 : w32 3 = 3 := by decide
  have w4 : w32 4 = 4 := by decide
  have w5 : w32 5 = 5 := by decide
  have w6 : w32 6 = 6 := by decide
  unfold f_X1_look j_X16_look_33
  rw [h1, w1, w2, w3, w4, w5, w6, show w32 (V 156 11) = tm from hP.1.2.1, show w32 (V 156 32) = (((wfl (yw Y)).length : Nat) : Int) from hP.1.2.2.2.1, show w32 (V 156 12) = wlo (yw Y) from hP.1.2.2.1, v91, show w32 (V 156 13) = (N : Int) from hP.2.1.1, v10, Option.bind_some]
  rw [gfr_e hX.1.1, gfr_e hX.1.1, Option.bind_some, Option.bind_some, Option.bind_some, Option.bind_some, Option.bind_some, hX.1.2.1, hX.1.2.2, gfi_e k7, gfi_e k7, gfi_e k7, gfi_e hX.1.1, gfi_e k6, Option.bind_some, Option.bind_some, Option.bind_some, Option.bind_some, Option.bind_some, hC.2.1.2.2.1, hC.2.1.2.2.2.1, hC.2.1.2.2.2.2.1, hX.2.2.2.2.1, hC.1.2.2.1, ck_e hX.1.1, go, Option.bind_some, ck_e k7, c10, Option.bind_some]
  unfold j_X16_look_118 swt
  by_cases d : 0 ≤ x1 ∧ x1 ≤ 6
  · have q : x1 = 0 ∨ x1 = 1 ∨ x1 = 2 ∨ x1 = 3 ∨ x1 = 4 ∨ x1 = 5 ∨ x1 = 6 := by omega
    rcases q with q | q | q | q | q | q | q <;> rw [q] <;> exact ⟨_, rfl, rfl⟩
  · refine ⟨-1, ?_, ?_⟩
    · rw [if_neg (fun z => d ⟨z.1, by
        have z2 := z.2
        simp only [List.length_cons, List.length_nil] at z2
        omega⟩)]
    · rw [if_neg (by omega), if_neg (by omega), if_neg (by omega), if_neg (by omega), if_neg (by omega), if_neg (by omega), if_neg (by omega)]
end KLOOK
