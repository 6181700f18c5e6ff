/-! a free place, both sides -/
section KFREE
variable {M : MM} {V : VV} {m al N p t nb k K s : Nat} {pa tk : Nat → Nat} {own : Nat → Ky} {sd ps sn : Nat → Int} {tm x1 x2 x : Int} {Bt : Nat × Nat} {as : Nat → Option Nat} {Y : Ys} {Lb : Nat → List Trm} {LA : Nat → List Nat} {dn : Nat → Int} {KL : List Ky}
theorem k_free (h : TK M V m al N pa own sd ps sn tm tk as nb Lb LA dn KL K s Bt Y) (hX : XC M nb tk) (hN : 12 + N ≤ 44) (h91 : yv Y 156 91 = (nb : Int)) : (∃ t, t < 12 ∧ yv Y 226 t = 0 ∧ nb < 256 ∧ f_X1_free ((0 : Nat) : Int) M = some ((wa pa t : Nat) : Int) ∧ f_X16_freePlace V = some (t : Int)) ∨ (f_X1_free ((0 : Nat) : Int) M = some (-1) ∧ f_X16_freePlace V = some (-1)) := by
  obtain ⟨pu, rf, pb, nS, B, k, ⟨h, lf, b0, eg, mn, sto, fa, Z, ev, oth, tn, hJ, hCT⟩, _⟩ := h
  have sc := hJ.2.1.2.2.2.2.1
  have nb256 : nb ≤ 256 := hJ.1.1.2.2.2.1.1
  have v91 : w32 (V 156 91) = (nb : Int) := (sc 156 91 (by unfold scA; omega)).trans h91
  have hw : ∀ t, t < 12 → wa pa t = 48 + 9 * t := fun t ht => by unfold wa; rw [if_pos ht]
  have w256 : w32 256 = 256 := by decide
  have cls : ∀ i : Nat, i < 12 → b_X1_free_2 ((0 : Nat) : Int) (i : Int) M = if nb < 256 then (if yv Y 226 i = 0 then xit (some ((wa pa i : Nat) : Int)) else cnt ((i + 1 : Nat) : Int)) else xit (some (-1)) := fun i hi => by
    have k11 := (hJ.1.1.1.2.1.2.2.1 i (by omega)).1.1
    have g6 : rI M (wa pa i) 6 = yv Y 226 i := (hJ.1.1.1.2.2.1 i (by omega)).2.2.1
    unfold b_X1_free_2 j_X1_free_30 j_X1_free_43
    rw [w32_nn (by omega), if_pos (by show ((i : Nat) : Int) < 12; omega), gfi_e hX.1.1, Option.bind_some, hX.2.2.2.2.1, w32_nn (by omega), w256]
    by_cases c : nb < 256
    · rw [if_pos (by omega), if_pos c, gfr_e hX.1.1, Option.bind_some, Option.bind_some, hX.2.1.2.2.2.1, lar_e (k := 435) (l := 12) (j := i) hX.2.2.1.2.2.2.1 (by decide) (by decide) (w32_nn (by omega)) hi, Option.bind_some, Option.bind_some, hX.2.2.2.1 i hi, ← hw i hi, gfi_e k11, Option.bind_some, w32_rI, g6]
      rfl
    · rw [if_neg (by omega), if_neg c]
  have ref : ∀ i : Nat, i < 12 → b_X16_freePlace_14 (i : Int) V = if yv Y 226 i = 0 then xit (some (i : Int)) else cnt ((i + 1 : Nat) : Int) := fun i hi => by
    unfold b_X16_freePlace_14 j_X16_freePlace_35 j_X16_freePlace_46
    rw [w32_nn (by omega), if_pos (by show ((i : Nat) : Int) < 12; omega), l2_n (show i < 44 by omega) (by decide), Option.bind_some, w32_vI, sc 226 i (by unfold scA; omega), if_neg (show ¬ ((i : Nat) : Int) = w32 12 by show ¬ ((i : Nat) : Int) = 12; omega)]
    rfl
  by_cases c : nb < 256
  · have main : ∀ d i fu : Nat, d + i = 12 → d < fu → (∃ t, t < 12 ∧ yv Y 226 t = 0 ∧ lpN (fun s : Int => b_X1_free_2 ((0 : Nat) : Int) s M) fu (i : Int) = some ((wa pa t : Nat) : Int) ∧ lpN (fun s : Int => b_X16_freePlace_14 s V) fu (i : Int) = some (t : Int)) ∨ (lpN (fun s : Int => b_X1_free_2 ((0 : Nat) : Int) s M) fu (i : Int) = some (-1) ∧ lpN (fun s : Int => b_X16_freePlace_14 s V) fu (i : Int) = some (-1)) := by
      intro d
      induction d with
      | zero =>
        intro i fu hd hf
        have : i = 12 := by omega
        subst this
        refine Or.inr ⟨lpN_end (b := fun s : Int => b_X1_free_2 ((0 : Nat) : Int) s M) (by omega) ?_, lpN_end (b := fun s : Int => b_X16_freePlace_14 s V) (by omega) ?_⟩
        · unfold b_X1_free_2; rw [if_neg (by decide)]; rfl
        · unfold b_X16_freePlace_14; rw [if_neg (by decide)]; rfl
      | succ d ih =>
        intro i fu hd hf
        obtain ⟨f, rfl⟩ : ∃ f, fu = f + 1 := ⟨fu - 1, by omega⟩
        have s1 := cls i (by omega)
        have s2 := ref i (by omega)
        rw [if_pos c] at s1
        by_cases z : yv Y 226 i = 0
        · rw [if_pos z] at s1 s2
          exact Or.inl ⟨i, by omega, z, lpN_xit (b := fun s : Int => b_X1_free_2 ((0 : Nat) : Int) s M) s1, lpN_xit (b := fun s : Int => b_X16_freePlace_14 s V) s2⟩
        · rw [if_neg z] at s1 s2
          rw [lpN_cnt (b := fun s : Int => b_X1_free_2 ((0 : Nat) : Int) s M) s1, lpN_cnt (b := fun s : Int => b_X16_freePlace_14 s V) s2]
          exact ih (i + 1) f (by omega) (by omega)
    have rE : f_X16_freePlace V = lpN (fun s : Int => b_X16_freePlace_14 s V) FU ((0 : Nat) : Int) := by
      unfold f_X16_freePlace
      rw [v91, w32_nn (by omega), w256, if_neg (by omega)]
      rfl
    rcases main 12 0 FU (by omega) (by unfold FU; omega) with ⟨t, t1, t2, t3, t4⟩ | ⟨t3, t4⟩
    · exact Or.inl ⟨t, t1, t2, c, t3, rE.trans t4⟩
    · exact Or.inr ⟨t3, rE.trans t4⟩
  · refine Or.inr ⟨?_, ?_⟩
    · have s1 := cls 0 (by decide)
      rw [if_neg c] at s1
      exact lpN_end (b := fun s : Int => b_X1_free_2 ((0 : Nat) : Int) s M) (s := ((0 : Nat) : Int)) (n := FU) (by unfold FU; omega) s1
    · unfold f_X16_freePlace
      rw [v91, w32_nn (by omega), w256, if_pos (by omega)]
end KFREE
