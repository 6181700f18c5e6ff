/-! what is checked -/
section CCHK
variable {M M1 : MM} {a p m n kx x c k s A h : Nat} {l ql : List Int} {D : Nat → Nat} {S : List Post} {Z : Nat → Prop}
theorem chk_snoc {key : Ky} {cl : List (Int × Int)} {z : Int × Int} : chkS key (cl ++ [z]) S = chkS key cl S ++ ((S.find? (fun y => decide (pid y = (key, z.1, z.2)))).map itm).toList := by
  unfold chkS
  rw [List.filterMap_append]
  congr 1
theorem chk_len {key : Ky} {cl : List (Int × Int)} : (chkS key cl S).length ≤ cl.length := List.length_filterMap_le _ _
theorem c_putChecked (hb : BdS M m) (hpe : PeS M a p) (ha : 276 ≤ a) (hS : StC M (a + 3) A D S) (hD : ∀ i, i < A → 276 ≤ D i) (hkx : isK M kx) (hk44 : kx + 1 ≠ 33 ∧ kx + 1 ≠ 34) (hx : x = 22 ∨ x = 31) (hq : PkC M x ql) (hn : ql.getD 45 0 = (n : Int)) (hn30 : n ≤ 30) (hql : 46 + 2 * n ≤ ql.length) (ho : ∀ i, i < n → ql.getD (46 + 2 * i) 0 < 32 ∧ ql.getD (46 + 2 * i + 1) 0 < 16) (hp : PkC M 33 l) (hl : l.length = 25) :
    ∃ M', f_X17_putChecked (a : Int) ((33 : Nat) : Int) (kx : Int) (x : Int) M = some M' ∧ PkC M' 33 (l ++ ((((chkS (ky (kC M kx)) (rdC ql 46 n) S).length : Nat) : Int) :: (chkS (ky (kC M kx)) (rdC ql 46 n) S).flatMap be3)) ∧ Ex (fun q => q = 33 ∨ q = 34) M M' := by
  obtain ⟨key, hkey⟩ : ∃ key, key = ky (kC M kx) := ⟨_, rfl⟩
  obtain ⟨cl, hcl⟩ : ∃ cl, cl = rdC ql 46 n := ⟨_, rfl⟩
  have ln : cl.length = n := by rw [hcl]; exact rdC_len
  obtain ⟨M1, c1, c2, c3⟩ := e_X4_put (v := 0) (n := 1) hp (by decide) (by omega)
  rw [show be 0 1 = [0] by decide] at c2
  have hlo : ∀ i, 0 ≤ ql.getD (46 + 2 * i) 0 ∧ 0 ≤ ql.getD (46 + 2 * i + 1) 0 := fun i => by
    have pos : ∀ j, 0 ≤ ql.getD j 0 := fun j => by
      by_cases c : j < ql.length
      · exact (pk_b hq c).1
      · rw [List.getD_eq_getElem?_getD, List.getElem?_eq_none (by omega)]; exact Int.le_refl 0
    exact ⟨pos _, pos _⟩
  have dS := hS.2.2.2.2.2.2.2.1
  have loop : ∀ d j fu (U : MM), d + j = n → d < fu → Ex (fun q => q = 33 ∨ q = 34) M U → PkC U 33 (l ++ [0] ++ (chkS key (cl.take j) S).flatMap be3) → ∃ U', lpN (fun t : Int × Int × MM => b_X17_putChecked_27 (a : Int) ((33 : Nat) : Int) (kx : Int) (x : Int) 46 (n : Int) t.1 t.2.1 t.2.2) fu ((((chkS key (cl.take j) S).length : Nat) : Int), (j : Int), U) = j_X17_putChecked_102 ((33 : Nat) : Int) (((chkS key cl S).length : Nat) : Int) U' ∧ Ex (fun q => q = 33 ∨ q = 34) M U' ∧ PkC U' 33 (l ++ [0] ++ (chkS key cl S).flatMap be3) := by
    intro d
    induction d with
    | zero =>
      intro j fu U hd hf hU hpk
      have e : j = n := by omega
      subst e
      rw [List.take_of_length_le (by omega)] at hpk ⊢
      refine ⟨U, ?_, hU, hpk⟩
      refine lpN_end (b := fun t : Int × Int × MM => b_X17_putChecked_27 (a : Int) ((33 : Nat) : Int) (kx : Int) (x : Int) 46 (j : Int) t.1 t.2.1 t.2.2) (by omega) ?_
      dsimp only
      unfold b_X17_putChecked_27
      rw [if_neg (by omega)]
    | succ d ih =>
      intro j fu U hd hf hU hpk
      obtain ⟨f, rfl⟩ : ∃ f, fu = f + 1 := ⟨fu - 1, by omega⟩
      have hj : j < cl.length := by omega
      have tk : cl.take (j + 1) = cl.take j ++ [cl.getD j (0, 0)] := take_s hj
      have cj : cl.getD j (0, 0) = (ql.getD (46 + 2 * j) 0, ql.getD (46 + 2 * j + 1) 0) := by rw [hcl]; exact rdC_get (by omega)
      obtain ⟨o, ho1⟩ : ∃ o : Nat, ql.getD (46 + 2 * j) 0 = (o : Int) := ⟨(ql.getD (46 + 2 * j) 0).toNat, by have := (hlo j).1; omega⟩
      obtain ⟨dd, hd1⟩ : ∃ dd : Nat, ql.getD (46 + 2 * j + 1) 0 = (dd : Int) := ⟨(ql.getD (46 + 2 * j + 1) 0).toNat, by have := (hlo j).2; omega⟩
      have hod := ho j (by omega)
      rw [ho1, hd1] at hod
      rw [ho1, hd1] at cj
      have peU := hpe.ex hU (by omega)
      have stU := hS.ex hU (by omega) (fun i hi => ⟨by have := hD i hi; omega, by have := hD i hi; omega⟩)
      have kU : isK U kx := hkx.ex hU
      have ekU : ky (kC U kx) = key := by
        have : kC U kx = kC M kx := by funext i; exact hU.rI (by omega) i
        rw [this]; exact hkey.symm
      have qU : PkC U x ql := hq.ex hU (by omega) (by omega)
      have lenj := chk_len (key := key) (S := S) (cl := cl.take j)
      rw [List.length_take] at lenj
      have lf := be3_flat (chkS key (cl.take j) S)
      have head : ∀ (R : Option ((Int × Int × MM) ⊕ MM)), (∀ i, f_X18_find ((a + 3 : Nat) : Int) (kx : Int) (o : Int) (dd : Int) U = some i → (if w32 i = w32 (-1) then j_X17_putChecked_96 (a : Int) ((33 : Nat) : Int) (kx : Int) (x : Int) 46 (n : Int) (((chkS key (cl.take j) S).length : Nat) : Int) (j : Int) U else (some ((a + 3 : Nat) : Int)).bind fun v5 => (gfr 18 0 v5 U).bind fun v6 => (lar 9 v6 i U).bind fun v7 => (f_X17_putPosting ((33 : Nat) : Int) v7 U).bind fun M1 => j_X17_putChecked_96 (a : Int) ((33 : Nat) : Int) (kx : Int) (x : Int) 46 (n : Int) ((((chkS key (cl.take j) S).length : Nat) : Int) + 1) (j : Int) M1) = R) → (∃ i, f_X18_find ((a + 3 : Nat) : Int) (kx : Int) (o : Int) (dd : Int) U = some i) → b_X17_putChecked_27 (a : Int) ((33 : Nat) : Int) (kx : Int) (x : Int) 46 (n : Int) (((chkS key (cl.take j) S).length : Nat) : Int) (j : Int) U = R := by
        intro R hR hi
        obtain ⟨i, hi⟩ := hi
        unfold b_X17_putChecked_27
        rw [w32_nn (by omega), w32_nn (by omega), if_pos (by omega), gfr_e (by rw [peU.1]), peU.2.2.1.2.2.2.1, Option.bind_some, ck_e qU.1.1, pk_get1 (q := 46 + 2 * j) qU (by omega) (by omega), Option.bind_some, ck_e qU.1.1, pk_get1 (q := 46 + 2 * j + 1) qU (by omega) (by omega), Option.bind_some, ho1, hd1, ck_e stU.1.1, hi, Option.bind_some]
        exact hR i hi
      rcases c_sfind stU kU (o := o) (d := dd) (by omega) (by omega) with ⟨i, i1, i2, i3⟩ | ⟨i2, i3⟩
      · rw [ekU] at i3
        have hfnd : S.find? (fun y => decide (pid y = (key, (o : Int), (dd : Int)))) = some (S.getD i post0) := by
          rw [← i3]
          exact find_key (g := pid) (okSt_nodup dS) (getD_mem i1)
        obtain ⟨d1, d2, d3, d4, d5, d6, d7, d8, d9⟩ := id stU
        have hpo := (d5 i (by omega)).2
        have hpc := d9 i i1
        have hok := d8.2.2 _ (getD_mem (d := post0) i1)
        have hDi := hD i (by omega)
        obtain ⟨U', w1, w2, w3⟩ := c_putPosting hpk hpo ⟨by omega, by omega⟩ (by rw [hpc]; exact hok) (by
          simp only [List.length_append, List.length_singleton]; omega)
        have es : chkS key (cl.take (j + 1)) S = chkS key (cl.take j) S ++ [itm (S.getD i post0)] := by
          rw [tk, chk_snoc, cj]
          dsimp only
          rw [hfnd]
          rfl
        have st := head (some (.inl ((((chkS key (cl.take (j + 1)) S).length : Nat) : Int), ((j + 1 : Nat) : Int), U'))) (fun i' hi' => by
          rw [i2] at hi'
          have hi' := (Option.some.inj hi').symm
          subst hi'
          rw [if_neg (by rw [w32_nn (by have := dS.1; omega), w32_m1]; omega), Option.bind_some, gfr_e d1.1, d1.2.1, Option.bind_some, lar_n d1.2.2.1 (by decide) (by have := dS.1; omega) (by decide), (d5 i (by omega)).1, Option.bind_some, w1, Option.bind_some, es, List.length_append, List.length_singleton]
          rfl) ⟨_, i2⟩
        rw [lpN_cnt (b := fun t : Int × Int × MM => b_X17_putChecked_27 (a : Int) ((33 : Nat) : Int) (kx : Int) (x : Int) 46 (n : Int) t.1 t.2.1 t.2.2) (s := ((((chkS key (cl.take j) S).length : Nat) : Int), (j : Int), U)) st]
        refine ih (j + 1) f U' (by omega) (by omega) (hU.trans w3) ?_
        rw [es, List.flatMap_append, ← List.append_assoc, List.flatMap_singleton, ← hpc]
        exact w2
      · rw [ekU] at i3
        have hfnd : S.find? (fun y => decide (pid y = (key, (o : Int), (dd : Int)))) = none := List.find?_eq_none.mpr (fun y hy => by simpa using i3 y hy)
        have es : chkS key (cl.take (j + 1)) S = chkS key (cl.take j) S := by
          rw [tk, chk_snoc, cj]
          dsimp only
          rw [hfnd]
          simp
        have st := head (some (.inl ((((chkS key (cl.take (j + 1)) S).length : Nat) : Int), ((j + 1 : Nat) : Int), U))) (fun i' hi' => by
          rw [i2] at hi'
          have hi' := (Option.some.inj hi').symm
          subst hi'
          rw [if_pos rfl, es]
          rfl) ⟨_, i2⟩
        rw [lpN_cnt (b := fun t : Int × Int × MM => b_X17_putChecked_27 (a : Int) ((33 : Nat) : Int) (kx : Int) (x : Int) 46 (n : Int) t.1 t.2.1 t.2.2) (s := ((((chkS key (cl.take j) S).length : Nat) : Int), (j : Int), U)) st]
        exact ih (j + 1) f U (by omega) (by omega) hU (by rw [es]; exact hpk)
  obtain ⟨U, e1, e2, e3⟩ := loop n 0 FU M1 (by omega) (by unfold FU; omega) c3 (by rw [List.take_zero]; show PkC M1 33 (l ++ [0] ++ []); rw [List.append_nil]; exact c2)
  rw [← hkey, ← hcl]
  have lenc := chk_len (key := key) (S := S) (cl := cl)
  have w1 := pk_setb (j := 25) (v := (((chkS key cl S).length : Nat) : Int)) e3 (by simp only [List.length_append, List.length_singleton]; omega) (by omega)
  refine ⟨sI U (33 + 1) 25 (sx8 (((chkS key cl S).length : Nat) : Int)), ?_, ?_, e2.trans (Ex.st (A := fun q => q = 33 ∨ q = 34) (Or.inr rfl))⟩
  · unfold f_X17_putChecked l_X17_putChecked_27
    rw [ck_e hq.1.1, show f_X4_get (x : Int) (46 - 1) 1 M = some _ from pk_get1 (q := 45) hq (by decide) (by omega), hn, Option.bind_some, ck_e hp.1.1, show f_X4_put ((33 : Nat) : Int) 0 1 M = some M1 from c1, Option.bind_some]
    rw [List.take_zero] at e1
    rw [show ((0 : Int), (0 : Int), M1) = ((((chkS key [] S).length : Nat) : Int), ((0 : Nat) : Int), M1) from rfl, e1]
    unfold j_X17_putChecked_102
    rw [gfr_e e3.1.1, e3.1.2.1, Option.bind_some, sab_e e3.1.2.2 (by decide) (by decide) (j := 25) (by decide) (by decide), Option.bind_some]
  · have eL : (l ++ [0] ++ (chkS key cl S).flatMap be3).set 25 (((chkS key cl S).length : Nat) : Int) = l ++ ((((chkS key cl S).length : Nat) : Int) :: (chkS key cl S).flatMap be3) := by
      rw [List.append_assoc, List.set_append_right _ _ (by omega), hl]
      rfl
    rw [← eL]
    exact w1
end CCHK
