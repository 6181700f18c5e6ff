/-! what has come to its end goes from a store; all goes -/
section CEXP
variable {M M1 : MM} {s A k : Nat} {D : Nat → Nat} {S : List Post} {tm : Int}
def swD (D : Nat → Nat) (a b i : Nat) : Nat := if i = b then D a else if i = a then D b else D i
theorem c_expire (h : StC M s A D S) (ht : w32 tm = tm) : ∃ M' D', f_X18_expire (s : Int) tm M = some M' ∧ StC M' s A D' (expS tm S) ∧ (∀ i, i < A → ∃ j, j < A ∧ D' i = D j) ∧ ExC (fun q => q = s ∨ q = s + 1) M M' := by
  obtain ⟨a1, a2, a3, a4, a5, a6, a7, a8, a9⟩ := id h
  have gdS : ∀ i (hi : i < S.length), S.getD i post0 = S[i] := fun i hi => gd_get hi
  obtain ⟨⟨y, z, U⟩, n1, hn1, ⟨rfl, rfl, D', g0, g1, g2, g3, g4, g5, g6, g7⟩, q1⟩ := lp_inv (b := fun t : Int × Int × MM => b_X18_expire_4 (s : Int) tm t.1 t.2.1 t.2.2) (fun j t => t.1 = (((expS tm (S.take j)).length : Nat) : Int) ∧ t.2.1 = (j : Int) ∧ ∃ D', (expS tm (S.take j)).length ≤ j ∧ ExC (fun q => q = s + 1) M t.2.2 ∧ (∀ i, i < A → rR t.2.2 (s + 1) i = ((D' i : Nat) : Int)) ∧ (∀ i, i < A → ∃ j, j < A ∧ D' i = D j) ∧ (∀ i i', i < A → i' < A → D' i = D' i' → i = i') ∧ (∀ i, A ≤ i → i < 200 → rR t.2.2 (s + 1) i = -1) ∧ (∀ i, j ≤ i → i < A → D' i = D i) ∧ ∀ i, i < (expS tm (S.take j)).length → poc M (D' i) = (expS tm (S.take j)).getD i post0) S.length
    (by
      rintro j ⟨y, z, U⟩ hj ⟨rfl, rfl, D', g0, g1, g2, g3, g4, g5, g6, g7⟩
      dsimp only at g1 g2 g5 ⊢
      have kU : kd U (s + 1) = (569, 200) := by rw [g1.kd]; exact a1.2.2.1
      have gs : (kd U s).1 = 18 := by rw [g1.kd]; exact a1.1
      have rs : rR U s 0 = ((s + 1 : Nat) : Int) := by rw [g1.rR (by omega)]; exact a1.2.1
      have is : rI U s 1 = (S.length : Int) := by rw [g1.rI (by omega)]; exact a2
      have ej : D' j = D j := g6 j (Nat.le_refl _) (by omega)
      have hc := (a5 j (by omega)).2
      have nj := st_ne a1 hc
      have en : rI U (D j) 4 = (S.getD j post0).2.2.2.2 := by rw [g1.rI (by omega), ← a9 j hj]; rfl
      have rj : rR U (s + 1) j = ((D j : Nat) : Int) := by rw [g2 j (by omega), ej]
      have wj : w32 (S.getD j post0).2.2.2.2 = (S.getD j post0).2.2.2.2 := (a8.2.2 _ (getD_mem hj)).2.2.2.2
      have tk : S.take (j + 1) = S.take j ++ [S.getD j post0] := take_s hj
      generalize hL : (expS tm (S.take j)).length = L at *
      have eb : b_X18_expire_4 (s : Int) tm ((L : Nat) : Int) ((j : Nat) : Int) U = if tm < (S.getD j post0).2.2.2.2 then some (.inl (((L + 1 : Nat) : Int), ((j + 1 : Nat) : Int), sR (sR U (s + 1) L ((D j : Nat) : Int)) (s + 1) j ((D' L : Nat) : Int))) else some (.inl (((L : Nat) : Int), ((j + 1 : Nat) : Int), U)) := by
        unfold b_X18_expire_4 j_X18_expire_59
        rw [gfi_e gs, is, Option.bind_some, w32_nn (by omega), w32_nn (by omega), if_pos (by omega), gfr_e gs, rs, Option.bind_some, lar_n kU (by decide) (by omega) (by decide), Option.bind_some, rj, gfi_e (by rw [g1.kd, hc.1]), en, Option.bind_some, ht, wj, Option.bind_some, lar_n kU (by decide) (by omega) (by decide), Option.bind_some, g2 L (by omega), Option.bind_some, Option.bind_some, lar_n (t := 9) (j := j) kU (by decide) (by omega) (by decide), Option.bind_some, rj, sar_n kU (by decide) (by omega) (by decide) (by rw [g1.kd, hc.1]; rfl), Option.bind_some, gfr_e (by rw [kd_sR]; exact gs), rR_ne (by omega), rs, Option.bind_some, sar_n (show kd (sR U (s + 1) L ((D j : Nat) : Int)) (s + 1) = (569, 200) from kU) (by decide) (by omega) (by decide) (by
          obtain ⟨j', j1, j2⟩ := g3 L (by omega)
          rw [kd_sR, g1.kd, j2, (a5 j' j1).2.1]; rfl), Option.bind_some, cadd1, cadd1]
        rfl
      have ex : expS tm (S.take (j + 1)) = expS tm (S.take j) ++ if tm < (S.getD j post0).2.2.2.2 then [S.getD j post0] else [] := by
        rw [tk]
        unfold expS
        rw [List.filter_append, List.filter_cons]
        by_cases c : tm < (S.getD j post0).2.2.2.2
        · rw [if_pos c, if_pos (by simpa using c)]; rfl
        · rw [if_neg c, if_neg (by simpa using c)]; rfl
      by_cases c : tm < (S.getD j post0).2.2.2.2
      · rw [if_pos c] at eb ex
        have lx : (expS tm (S.take (j + 1))).length = L + 1 := by rw [ex, List.length_append, hL]; rfl
        refine ⟨_, eb, by rw [lx], rfl, swD D' L j, by omega, g1.trans (ExC.trans (M1 := sR U (s + 1) L ((D j : Nat) : Int)) (ExC_sR (A := fun q => q = s + 1) rfl) (ExC_sR (A := fun q => q = s + 1) rfl)), fun i hi => ?_, fun i hi => ?_, fun i i' hi hi' e => ?_, fun i h1 h2 => ?_, fun i h1 h2 => ?_, fun i hi => ?_⟩
        · dsimp only
          unfold swD
          by_cases e1 : i = j
          · rw [if_pos e1, rR_eq e1]
          · rw [if_neg e1, rR_ne (by omega)]
            by_cases e2 : i = L
            · rw [if_pos e2, rR_eq e2, ej]
            · rw [if_neg e2, rR_ne (by omega)]; exact g2 i hi
        · unfold swD
          by_cases e1 : i = j
          · rw [if_pos e1]; exact g3 L (by omega)
          · rw [if_neg e1]
            by_cases e2 : i = L
            · rw [if_pos e2]; exact g3 j (by omega)
            · rw [if_neg e2]; exact g3 i hi
        · unfold swD at e
          have h4 := fun x y hx hy => g4 x y hx hy
          by_cases e1 : i = j <;> by_cases e2 : i' = j
          · omega
          · rw [if_pos e1, if_neg e2] at e
            by_cases e3 : i' = L
            · rw [if_pos e3] at e; have := g4 L j (by omega) (by omega) e; omega
            · rw [if_neg e3] at e; have := g4 L i' (by omega) hi' e; omega
          · rw [if_neg e1, if_pos e2] at e
            by_cases e3 : i = L
            · rw [if_pos e3] at e; have := g4 j L (by omega) (by omega) e; omega
            · rw [if_neg e3] at e; have := g4 i L hi (by omega) e; omega
          · rw [if_neg e1, if_neg e2] at e
            by_cases e3 : i = L <;> by_cases e4 : i' = L
            · omega
            · rw [if_pos e3, if_neg e4] at e; have := g4 j i' (by omega) hi' e; omega
            · rw [if_neg e3, if_pos e4] at e; have := g4 i j hi (by omega) e; omega
            · rw [if_neg e3, if_neg e4] at e; exact g4 i i' hi hi' e
        · dsimp only
          rw [rR_ne (by omega), rR_ne (by omega)]; exact g5 i h1 h2
        · unfold swD
          rw [if_neg (by omega), if_neg (by omega)]; exact g6 i (by omega) h2
        · rw [lx] at hi
          rw [ex, getD_snoc (by rw [hL]; exact hi), hL]
          unfold swD
          by_cases e2 : i = L
          · by_cases e1 : i = j
            · rw [if_pos e1, if_pos e2, ← e2, e1, ej]; exact a9 j hj
            · rw [if_neg e1, if_pos e2, if_pos e2, ej]; exact a9 j hj
          · rw [if_neg (by omega), if_neg e2, if_neg e2]; exact g7 i (by omega)
      · rw [if_neg c, List.append_nil] at ex
        rw [if_neg c] at eb
        refine ⟨_, eb, by rw [ex, hL], rfl, D', by rw [ex, hL]; omega, g1, g2, g3, g4, g5, fun i h1 h2 => g6 i (by omega) h2, fun i hi => ?_⟩
        rw [ex, hL] at hi
        rw [ex]; exact g7 i hi) FU 0 (0, 0, M) (by omega) (by unfold FU; have := a8.1; omega) ⟨by simp [expS], rfl, D, by simp [expS], ExC.refl, fun i hi => (a5 i hi).1, fun i hi => ⟨i, hi, rfl⟩, a6, a7, fun i _ _ => rfl, fun i hi => by simp [expS] at hi⟩
  dsimp only at g1 g2 g5
  rw [List.take_of_length_le (Nat.le_refl _)] at g0 g7 q1
  have fr : ExC (fun q => q = s ∨ q = s + 1) M (sI U s 1 (((expS tm S).length : Nat) : Int)) := (g1.mono (fun q z => Or.inr z)).trans (ExC_sI (Or.inl rfl))
  have l8 := a8.1
  refine ⟨sI U s 1 (((expS tm S).length : Nat) : Int), D', ?_, ⟨⟨by rw [fr.kd]; exact a1.1, by rw [rR_sI, g1.rR (by omega)]; exact a1.2.1, by rw [fr.kd]; exact a1.2.2.1, by rw [rR_sI, g1.rR (by omega)]; exact a1.2.2.2.1, by rw [fr.kd]; exact a1.2.2.2.2.1, fr.isK (by omega) a1.2.2.2.2.2⟩, by rw [rI_eq rfl, w32_nn (by omega)], by omega, a4, fun i hi => ⟨by rw [rR_sI]; exact g2 i hi, ?_⟩, g4, fun i h1 h2 => by rw [rR_sI]; exact g5 i h1 h2, ⟨by omega, a8.2.1.filter _, fun y hy => a8.2.2 y (List.mem_filter.mp hy).1⟩, fun i hi => ?_⟩, g3, fr⟩
  · unfold f_X18_expire l_X18_expire_4
    refine q1.trans ?_
    refine lpN_end (b := fun t : Int × Int × MM => b_X18_expire_4 (s : Int) tm t.1 t.2.1 t.2.2) hn1 ?_
    dsimp only
    unfold b_X18_expire_4
    rw [gfi_e (by rw [g1.kd]; exact a1.1), Option.bind_some, g1.rI (by omega), a2, if_neg (Int.lt_irrefl _), pfi_e (by rw [g1.kd]; exact a1.1), Option.bind_some]
  · obtain ⟨j, j1, j2⟩ := g3 i hi
    have hc := (a5 j j1).2
    have n1 := st_ne a1 hc
    rw [j2]
    exact ⟨by rw [fr.kd]; exact hc.1, by rw [fr.rR (by omega)]; exact hc.2.1, by rw [fr.kd]; exact hc.2.2.1, fr.isK (by omega) hc.2.2.2⟩
  · obtain ⟨j, j1, j2⟩ := g3 i (by omega)
    have hc := (a5 j j1).2
    have n1 := st_ne a1 hc
    rw [← g7 i hi, j2]
    unfold poc
    rw [fr.kC (by omega), fr.rI (by omega), fr.rI (by omega), fr.rI (by omega), fr.rI (by omega)]
theorem c_sclear (h : StC M s A D S) : ∃ M', f_X18_clear (s : Int) M = some M' ∧ StC M' s A D [] ∧ ExC (fun q => q = s) M M' := by
  obtain ⟨a1, a2, a3, a4, a5, a6, a7, a8, a9⟩ := id h
  have fr : ExC (fun q => q = s) M (sI M s 1 0) := ExC_sI rfl
  refine ⟨sI M s 1 0, ?_, ⟨a1, by rw [rI_eq rfl]; rfl, Nat.zero_le _, a4, fun i hi => a5 i hi, a6, a7, ⟨by simp, List.Pairwise.nil, fun x hx => by simp at hx⟩, fun i hi => by simp at hi⟩, fr⟩
  unfold f_X18_clear
  rw [pfi_e a1.1, Option.bind_some]
end CEXP
