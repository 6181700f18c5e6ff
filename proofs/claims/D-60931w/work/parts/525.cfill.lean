/-! terms that are published: the class fills its list -/
section CFILL
variable {S : Nat → Bool} {M M1 : MM} {m al N p t t' nb oth Z L k K kx n P u x lim : Nat} {pa tk : Nat → Nat} {tr : Trm} {Lb : Nat → List Trm} {LA : Nat → List Nat} {dn : Nat → Int} {Lt : List Trm} {A : List Nat} {dnp : Int} {x1 : Int}
theorem inT_iff : isInT lim tr = true ↔ ∃ d, d < lim ∧ 0 < tr.2.2 d := by
  unfold isInT
  rw [List.any_eq_true]
  constructor
  · rintro ⟨d, h1, h2⟩
    exact ⟨d, List.mem_range.mp h1, of_decide_eq_true h2⟩
  · rintro ⟨d, h1, h2⟩
    exact ⟨d, List.mem_range.mpr h1, decide_eq_true h2⟩
theorem c_isIn (h : TrC M x tr) (hl : lim ≤ 16) : f_X29_isIn (x : Int) (lim : Int) M = some (b2i (isInT lim tr)) := by
  obtain ⟨t1, t2, t3, t4, t5, t6, t7, t8, t9, t10, t11, t12⟩ := h
  have step : ∀ i, i < lim → b_X29_isIn_2 (x : Int) (lim : Int) (i : Int) M = if 0 < tr.2.2 i then xit (some 1) else cnt ((i + 1 : Nat) : Int) := fun i hi => by
    unfold b_X29_isIn_2
    rw [w32_nn (by omega), w32_nn (by omega), if_pos (by omega), gfr_e t1, Option.bind_some, t10, lai_e (k := 512) (l := 16) (j := i) t11 (by decide) (by decide) (w32_nn (by omega)) (by omega), Option.bind_some, w32_rI, t12 i (by omega)]
    rfl
  have main : ∀ d i fu, d + i = lim → d < fu → (∀ j, j < i → ¬ 0 < tr.2.2 j) → lpN (fun s : Int => b_X29_isIn_2 (x : Int) (lim : Int) s M) fu (i : Int) = some (b2i (isInT lim tr)) := by
    intro d
    induction d with
    | zero =>
      intro i fu hd hf hj
      have : i = lim := by omega
      subst this
      have e : isInT i tr = false := by
        cases c : isInT i tr with
        | false => rfl
        | true => obtain ⟨d, d1, d2⟩ := inT_iff.mp c; exact absurd d2 (hj d d1)
      rw [e]
      refine lpN_end (b := fun s : Int => b_X29_isIn_2 (x : Int) (i : Int) s M) (by omega) ?_
      unfold b_X29_isIn_2
      rw [if_neg (by omega)]
      rfl
    | succ d ih =>
      intro i fu hd hf hj
      obtain ⟨f, rfl⟩ : ∃ f, fu = f + 1 := ⟨fu - 1, by omega⟩
      have st := step i (by omega)
      by_cases c : 0 < tr.2.2 i
      · rw [if_pos c] at st
        rw [inT_iff.mpr ⟨i, by omega, c⟩]
        exact lpN_xit (b := fun s : Int => b_X29_isIn_2 (x : Int) (lim : Int) s M) st
      · rw [if_neg c] at st
        rw [lpN_cnt (b := fun s : Int => b_X29_isIn_2 (x : Int) (lim : Int) s M) st]
        exact ih (i + 1) f (by omega) (by omega) (fun j hj' => by
          by_cases e : j = i
          · rw [e]; exact c
          · exact hj j (by omega))
  unfold f_X29_isIn l_X29_isIn_2
  exact main lim 0 FU (by omega) (by unfold FU; omega) (fun j hj => by omega)
theorem pbL_succ {i : Nat} (hi : i < Lt.length) (hA : A.length = Lt.length) : pbL lim (Lt.take (i + 1)) (A.take (i + 1)) = pbL lim (Lt.take i) (A.take i) ++ if isInT lim (Lt.getD i trm0) = true then [(A.getD i 0, Lt.getD i trm0)] else [] := by
  unfold pbL
  rw [List.take_succ, List.take_succ, List.getElem?_eq_getElem hi, List.getElem?_eq_getElem (by omega)]
  rw [List.getD_eq_getElem?_getD, List.getD_eq_getElem?_getD, List.getElem?_eq_getElem hi, List.getElem?_eq_getElem (by omega)]
  show ((A.take i ++ [A[i]]).zip (Lt.take i ++ [Lt[i]])).filter _ = _
  rw [List.zip_append (by rw [List.length_take, List.length_take]; omega), List.filter_append]
  congr 1
  show [(A[i], Lt[i])].filter _ = _
  rw [List.filter_cons]
  by_cases c : isInT lim Lt[i] = true
  · rw [if_pos c]; show _ = if isInT lim Lt[i] = true then [(A[i], Lt[i])] else []; rw [if_pos c]; rfl
  · rw [if_neg c]; show _ = if isInT lim Lt[i] = true then [(A[i], Lt[i])] else []; rw [if_neg c]; rfl
theorem getD_end {α : Type} {l : List α} {x d : α} {i : Nat} (h : i = l.length) : (l ++ [x]).getD i d = x := by
  rw [List.getD_eq_getElem?_getD, List.getElem?_append_right (by omega), h, Nat.sub_self]
  rfl
/-- cells of a publishing -/
theorem c_fill (hS : PbS M P) (hL : LibC M u Lt A dnp) (hu : UN M) (h1 : rI M P 1 = 0) (h3 : rI M P 3 = (lim : Int)) (hl : lim ≤ 16) (x1 : Int) : ∃ M', l_X30_begin_23 (P : Int) x1 (u : Int) 0 M = j_X30_begin_81 (P : Int) x1 M' ∧ PbS M' P ∧ PbT M' P (pbL lim Lt A) ∧ rI M' P 3 = (lim : Int) ∧ ExC (fun z => z = P ∨ z = P + 1) M M' := by
  obtain ⟨l1, l2, l3, l4, l5, l6, l7, l8⟩ := hL
  obtain ⟨s1, s2, s3⟩ := hS
  have A0 : ∀ z, z = P → (fun z => z = P ∨ z = P + 1) z := fun z hz => Or.inl hz
  have ne : ∀ z, (kd M z).1 ≠ 30 → (kd M z).1 ≠ 618 → ¬ (z = P ∨ z = P + 1) := fun z k1 k2 e => by
    rcases e with e | e
    · rw [e, s1] at k1; exact k1 rfl
    · rw [e, s3] at k2; exact k2 rfl
  have nu : ¬ (u = P ∨ u = P + 1) := ne u (by rw [l1]; decide) (by rw [l1]; decide)
  have nu1 : ¬ (u + 1 = P ∨ u + 1 = P + 1) := ne (u + 1) (by rw [l3]; show 554 ≠ 30; decide) (by rw [l3]; show 554 ≠ 618; decide)
  have stp : ∀ j (s : Int × MM), j < Lt.length → (s.1 = (j : Int) ∧ ExC (fun z => z = P ∨ z = P + 1) M s.2 ∧ rR s.2 P 0 = ((P + 1 : Nat) : Int) ∧ rI s.2 P 3 = (lim : Int) ∧ PbT s.2 P (pbL lim (Lt.take j) (A.take j))) → ∃ s', b_X30_begin_23 (P : Int) x1 (u : Int) s.1 s.2 = some (.inl s') ∧ (s'.1 = ((j + 1 : Nat) : Int) ∧ ExC (fun z => z = P ∨ z = P + 1) M s'.2 ∧ rR s'.2 P 0 = ((P + 1 : Nat) : Int) ∧ rI s'.2 P 3 = (lim : Int) ∧ PbT s'.2 P (pbL lim (Lt.take (j + 1)) (A.take (j + 1)))) := by
    rintro j ⟨z, U⟩ hj ⟨rfl, f1, f2, f3, f4⟩
    dsimp only at f1 f2 f3 f4 ⊢
    obtain ⟨g1, g2⟩ := l8 j hj
    have ntr : ∀ i, i ≤ 4 → ¬ (A.getD j 0 + i = P ∨ A.getD j 0 + i = P + 1) → True := fun _ _ _ => trivial
    have kp : (kd U P).1 = 30 := by rw [f1.kd, s1]
    have ku : (kd U u).1 = 19 := by rw [f1.kd]; exact l1
    have tU : TrC U (A.getD j 0) (Lt.getD j trm0) := by
      obtain ⟨t1, t2, t3, t4, t5, t6, t7, t8, t9, t10, t11, t12⟩ := g2
      have n0 := ne (A.getD j 0) (by rw [t1]; decide) (by rw [t1]; decide)
      have n1 := ne (A.getD j 0 + 1) (by rw [t3]; show 497 ≠ 30; decide) (by rw [t3]; show 497 ≠ 618; decide)
      have n2 := ne (A.getD j 0 + 2) (by rw [t7]; decide) (by rw [t7]; decide)
      have n3 := ne (A.getD j 0 + 2 + 1) (by rw [t8.2.2]; decide) (by rw [t8.2.2]; decide)
      have n4 := ne (A.getD j 0 + 4) (by rw [t11]; show 512 ≠ 30; decide) (by rw [t11]; show 512 ≠ 618; decide)
      refine ⟨by rw [f1.kd]; exact t1, by rw [f1.rR n0]; exact t2, by rw [f1.kd]; exact t3, by rw [f1.rI n0]; exact t4, fun i hi => ?_, by rw [f1.rR n0]; exact t6, by rw [f1.kd]; exact t7, f1.isK n2 t8, by rw [f1.kC n3]; exact t9, by rw [f1.rR n0]; exact t10, by rw [f1.kd]; exact t11, fun d hd => by rw [f1.rI n4]; exact t12 d hd⟩
      rw [← t5 i hi]
      show sx8 _ = sx8 _
      rw [(f1.1 (A.getD j 0 + 1) n1).1 i]
    have lst := pbL_succ (lim := lim) hj l6
    have len : (pbL lim (Lt.take j) (A.take j)).length ≤ j := by
      unfold pbL
      refine Nat.le_trans (List.length_filter_le _ _) ?_
      rw [List.length_zip, List.length_take, List.length_take]; omega
    unfold b_X30_begin_23
    rw [gfi_e ku, Option.bind_some, f1.rI nu, l4, w32_nn (by omega), w32_nn (by omega), if_pos (by omega), gfr_e ku, Option.bind_some, f1.rR nu, l2, lar_e (k := 554) (l := 64) (j := j) (by rw [f1.kd]; exact l3) (by decide) (by decide) (w32_nn (by omega)) (by omega), Option.bind_some, f1.rR nu1, g1, gfi_e kp, Option.bind_some, f3, ck_e tU.1, c_isIn tU hl, Option.bind_some, w32_b2i]
    by_cases c : isInT lim (Lt.getD j trm0) = true
    · rw [if_neg (by rw [c]; decide)]
      rw [if_pos c] at lst
      obtain ⟨q1, q2, q3⟩ := f4
      obtain ⟨n, hn⟩ : ∃ n, n = (pbL lim (Lt.take j) (A.take j)).length := ⟨_, rfl⟩
      rw [← hn] at q1 q2 len
      obtain ⟨U1, hU1⟩ : ∃ U1, U1 = sR U (P + 1) n ((A.getD j 0 : Nat) : Int) := ⟨_, rfl⟩
      obtain ⟨U2, hU2⟩ : ∃ U2, U2 = sI U1 P 1 (((n : Nat) : Int) + 1) := ⟨_, rfl⟩
      refine ⟨((j : Int) + 1, U2), ?_, by dsimp only; omega, ?_, ?_, ?_, ?_⟩
      · rw [gfr_e kp, Option.bind_some, f2, gfi_e kp, Option.bind_some, q1, Option.bind_some, lar_e (k := 554) (l := 64) (j := j) (by rw [f1.kd]; exact l3) (by decide) (by decide) (w32_nn (by omega)) (by omega), Option.bind_some, f1.rR nu1, g1, sar_e (k := 618) (l := 64) (j := n) (by rw [f1.kd]; exact s3) (by decide) (by decide) (w32_nn (by omega)) (by omega) (by rw [tU.1]; rfl), Option.bind_some, ← hU1, gfi_e (by rw [hU1]; exact kp), Option.bind_some, show rI U1 P 1 = ((n : Nat) : Int) by rw [hU1]; exact q1, pfi_e (by rw [hU1]; exact kp), Option.bind_some, ← hU2]
        rfl
      · dsimp only
        rw [hU2, hU1]
        exact (f1.trans (ExC_sR (Or.inr rfl))).trans (ExC_sI (Or.inl rfl))
      · dsimp only
        rw [hU2, hU1, rR_sI, rR_sR, if_neg (by omega)]; exact f2
      · dsimp only
        rw [hU2, hU1, rI_ne (by omega)]; exact f3
      · dsimp only
        rw [lst]
        refine ⟨?_, ?_, fun i hi => ?_⟩
        · rw [hU2, rI_eq rfl, w32_id (by omega) (by omega), List.length_append, ← hn]; rfl
        · rw [List.length_append, ← hn]; show n + 1 ≤ 64; omega
        · rw [List.length_append, ← hn] at hi
          have hi : i < n + 1 := hi
          rw [hU2, hU1, rR_sI, rR_sR]
          by_cases e : i = n
          · rw [if_pos ⟨rfl, e⟩, getD_end (by omega)]
          · rw [if_neg (by omega), getD_apl (by omega)]
            exact q3 i (by omega)
    · have c' : isInT lim (Lt.getD j trm0) = false := by cases e : isInT lim (Lt.getD j trm0) with | false => rfl | true => exact absurd e c
      rw [if_pos (by rw [c']; rfl)]
      rw [if_neg c, List.append_nil] at lst
      exact ⟨((j : Int) + 1, U), rfl, by dsimp only; omega, f1, f2, f3, by dsimp only; rw [lst]; exact f4⟩
  obtain ⟨⟨z, M'⟩, n2, hn2, ⟨rfl, g1, g2, g3, g4⟩, q2⟩ := lp_inv (b := fun s : Int × MM => b_X30_begin_23 (P : Int) x1 (u : Int) s.1 s.2) (fun j s => s.1 = (j : Int) ∧ ExC (fun z => z = P ∨ z = P + 1) M s.2 ∧ rR s.2 P 0 = ((P + 1 : Nat) : Int) ∧ rI s.2 P 3 = (lim : Int) ∧ PbT s.2 P (pbL lim (Lt.take j) (A.take j))) Lt.length stp FU 0 (0, M) (by omega) (by unfold FU; omega) ⟨rfl, .refl, s2, h3, ⟨by rw [h1]; simp [pbL], by simp [pbL], by simp [pbL]⟩⟩
  dsimp only at g1 g2 g3 g4
  rw [List.take_length, ← l6, List.take_length] at g4
  refine ⟨M', ?_, ⟨by rw [g1.kd]; exact s1, g2, by rw [g1.kd]; exact s3⟩, g4, g3, g1⟩
  unfold l_X30_begin_23
  refine q2.trans ?_
  refine lpN_end (b := fun s : Int × MM => b_X30_begin_23 (P : Int) x1 (u : Int) s.1 s.2) hn2 ?_
  dsimp only
  unfold b_X30_begin_23
  rw [gfi_e (by rw [g1.kd]; exact l1), Option.bind_some, g1.rI nu, l4, if_neg (by omega)]
end CFILL
