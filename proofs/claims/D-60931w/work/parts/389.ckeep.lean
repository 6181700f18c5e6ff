section EXTR
variable {A B : Nat → Prop} {M M1 M2 : MM}
theorem ExA.trA (h : ExA A M M1) (h2 : ExA B M1 M2) (hs : ∀ q, q < nN M → B q → A q) : ExA A M M2 := ⟨Nat.le_trans h.1 h2.1, fun q => h2.2.1 (h.2.1 q), fun a ha => (h2.2.2.1 a (Nat.lt_of_lt_of_le ha h.1)).trans (h.2.2.1 a ha), fun a ha hA => ⟨fun i => ((h2.2.2.2 a (Nat.lt_of_lt_of_le ha h.1) (fun q => hA (hs a ha q))).1 i).trans ((h.2.2.2 a ha hA).1 i), fun i => ((h2.2.2.2 a (Nat.lt_of_lt_of_le ha h.1) (fun q => hA (hs a ha q))).2 i).trans ((h.2.2.2 a ha hA).2 i)⟩⟩
theorem ExA.trC (h : ExA A M M1) (h2 : ExC B M1 M2) (hs : ∀ q, q < nN M → B q → A q) : ExA A M M2 := h.trA h2.exa hs
theorem ExA.un (h : ExA A M M1) (hu : UN M) : UN M1 := h.2.1 hu
theorem ExC.un (h : ExC A M M1) (hu : UN M) : UN M1 := h.exa.2.1 hu
end EXTR
/-- which cells hold postings after a step -/
def DW (M : MM) (A : Nat) (D : Nat → Nat) (A' : Nat) (D' : Nat → Nat) : Prop := A ≤ A' ∧ ∀ i, i < A' → (∃ j, j < A ∧ D' i = D j) ∨ nN M ≤ D' i
section CKEEP
variable {M M1 : MM} {s A k o d c n : Nat} {D : Nat → Nat} {S : List Post} {B : Nat → Prop} {w en : Int} {x : Post}
theorem DW.refl : DW M A D A D := ⟨Nat.le_refl _, fun i hi => Or.inl ⟨i, hi, rfl⟩⟩
theorem DW.trans {A1 A2 : Nat} {D1 D2 : Nat → Nat} (h : DW M A D A1 D1) (h2 : DW M1 A1 D1 A2 D2) (hn : nN M ≤ nN M1) : DW M A D A2 D2 := by
  refine ⟨Nat.le_trans h.1 h2.1, fun i hi => ?_⟩
  rcases h2.2 i hi with ⟨j, j1, j2⟩ | q
  · rw [j2]; exact h.2 j j1
  · exact Or.inr (by omega)
theorem DW.a7 {A1 : Nat} {D1 : Nat → Nat} (h : DW M A D A1 D1) {q : Nat} (hq : q < nN M) (h7 : A7 s A1 D1 q) : A7 s A D q := by
  rcases h7 with z | z | ⟨i, i1, i2⟩
  · exact Or.inl z
  · exact Or.inr (Or.inl z)
  · rcases h.2 i i1 with ⟨j, j1, j2⟩ | z
    · rw [j2] at i2; exact Or.inr (Or.inr ⟨j, j1, i2⟩)
    · omega
theorem c_newPo (hu : UN M) : ∃ M4, f_X28_init ((nN M : Nat) : Int) (nwo M 28 5 33) = some M4 ∧ isPo M4 (nN M) ∧ nN M4 = nN M + 3 ∧ nU M4 = nU M + 11 ∧ ExA (fun _ => False) M M4 := by
  generalize hn : nN M = n
  obtain ⟨M4, hM4⟩ : ∃ M4, M4 = sR (sR (nw (nwo (nwo M 28 5 33) 3 1 32) 64 5) (n + 1) 0 ((n + 2 : Nat) : Int)) n 0 ((n + 1 : Nat) : Int) := ⟨_, rfl⟩
  have kd4 : ∀ z, kd M4 z = if z = n + 2 then (64, 5) else if z = n + 1 then (3, 32) else if z = n then (28, 33) else kd M z := fun z => by
    rw [hM4, kd_sR, kd_sR, kd_nw, kd_nwo, kd_nwo, nN_nwo, nN_nwo, hn]
  have r0 : rR M4 n 0 = ((n + 1 : Nat) : Int) := by rw [hM4, rR_eq rfl]
  have r1 : rR M4 (n + 1) 0 = ((n + 2 : Nat) : Int) := by rw [hM4, rR_ne (by omega), rR_eq rfl]
  refine ⟨M4, ?_, ⟨by rw [kd4, if_neg (by omega), if_neg (by omega), if_pos rfl], r0, by rw [kd4, if_neg (by omega), if_pos rfl], by rw [kd4, if_neg (by omega), if_pos rfl], r1, by rw [kd4, if_pos rfl]⟩, by rw [hM4]; show nN M + 1 + 1 + 1 = _; rw [hn], by rw [hM4]; rfl, ?_⟩
  · unfold f_X28_init f_X3_init
    rw [nn_e, nob_e, Option.bind_some]
    dsimp only
    have n1 : nN (nwo M 28 5 33) = n + 1 := by rw [nN_nwo, hn]
    have n2 : nN (nwo (nwo M 28 5 33) 3 1 32) = n + 2 := by rw [nN_nwo, n1]
    rw [n1, nn_e, nn_e, nar_e (j := 5) (by decide) (by decide), Option.bind_some]
    dsimp only
    rw [n2, pfr_e (by rw [kd_nw, if_neg (by rw [n2]; omega), kd_nwo, if_pos n1.symm]), Option.bind_some, Option.bind_some, pfr_e (by rw [kd_sR, kd_nw, if_neg (by rw [n2]; omega), kd_nwo, if_neg (by rw [n1]; omega), kd_nwo, if_pos hn.symm]), Option.bind_some, hM4]
  · rw [hM4]
    have b1 : ExA (fun _ => False) M (nw (nwo (nwo M 28 5 33) 3 1 32) 64 5) := (ExA_nwo.trans ExA_nwo).trans ExA_nw
    exact (b1.newR (by omega)).newR (by omega)
theorem StC.D_lt (hu : UN M) (h : StC M s A D S) {i : Nat} (hi : i < A) : D i + 2 < nN M := isPo_lt hu (h.2.2.2.2.1 i hi).2
theorem c_put34 (h : StC M s A D S) (hu : UN M) (hk : isK M k) (hk2 : kd M k ≠ (3, 32)) (hA : S.length < 200) (hn : n ≤ S.length) (ho : o < 32) (hd : d < 16) (hw : 1 ≤ w ∧ w ≤ 15) (he : w32 en = en) (hlo : ∀ i, i < n → pmz (S.getD i post0) < mzk (ky (kC M k)) o d) (hhi : ∀ i, n ≤ i → i < S.length → mzk (ky (kC M k)) o d ≤ pmz (S.getD i post0)) (hno : ∀ y, y ∈ S → pid y ≠ (ky (kC M k), (o : Int), (d : Int))) :
    ∃ M' A' D', j_X18_put_34 (s : Int) (k : Int) (o : Int) (d : Int) w en (n : Int) M = some M' ∧ StC M' s A' D' (putP S (ky (kC M k), (o : Int), (d : Int), w, en)) ∧ DW M A D A' D' ∧ nN M' + 3 * A = nN M + 3 * A' ∧ nU M' + 11 * A = nU M + 11 * A' ∧ ExA (A7 s A D) M M' := by
  obtain ⟨a1, a2, a3, a4, a5, a6, a7, a8, a9⟩ := id h
  have ls := StS_lt hu a1
  have lk := isK_lt hu hk
  unfold j_X18_put_34
  rw [gfr_e a1.1, a1.2.1, Option.bind_some, gfi_e a1.1, a2, Option.bind_some, lar_n a1.2.2.1 (by decide) (by omega) (by decide), Option.bind_some]
  by_cases c0 : S.length < A
  · rw [(a5 _ c0).1, if_neg (by omega)]
    obtain ⟨M', b1, b2, b3⟩ := c_put62 h hk hk2 c0 hn ho hd hw he hlo hhi hno
    refine ⟨M', A, insD D n S.length, b1, b2, ⟨Nat.le_refl _, fun i hi => Or.inl ?_⟩, by rw [b3.nN], by rw [b3.nU], b3.exa⟩
    unfold insD
    by_cases e1 : i < n
    · rw [if_pos e1]; exact ⟨i, hi, rfl⟩
    · rw [if_neg e1]
      by_cases e2 : i = n
      · rw [if_pos e2]; exact ⟨S.length, c0, rfl⟩
      · rw [if_neg e2]
        by_cases e3 : i ≤ S.length
        · rw [if_pos e3]; exact ⟨i - 1, by omega, rfl⟩
        · rw [if_neg e3]; exact ⟨i, hi, rfl⟩
  · have eA : A = S.length := by omega
    rw [a7 S.length (by omega) hA, if_pos rfl, nob_e, Option.bind_some, Option.bind_some, Option.bind_some]
    dsimp only
    rw [nn_e]
    obtain ⟨M4, run, po4, n4, u4, f4⟩ := c_newPo hu
    have k4 : kd M4 (s + 1) = (569, 200) := by rw [f4.kd (by omega)]; exact a1.2.2.1
    rw [run, Option.bind_some, sar_n k4 (by decide) (by omega) (by decide) (by rw [po4.1]; rfl), Option.bind_some]
    obtain ⟨M5, hM5⟩ : ∃ M5, M5 = sR M4 (s + 1) S.length ((nN M : Nat) : Int) := ⟨_, rfl⟩
    have f45 : ExC (fun q => q = s + 1) M4 M5 := by rw [hM5]; exact ExC_sR rfl
    have f5 : ExA (fun q => q = s + 1) M M5 := (f4.mono (fun q z => z.elim)).trC f45 (fun q _ z => z)
    have D1 : ∀ i, i < A → D i + 2 < nN M := fun i hi => isPo_lt hu (a5 i hi).2
    have po5 : isPo M5 (nN M) := ⟨by rw [f45.kd]; exact po4.1, by rw [f45.rR (by omega)]; exact po4.2.1, by rw [f45.kd]; exact po4.2.2.1, f45.isK (by omega) po4.2.2.2⟩
    have st5 : StC M5 s (A + 1) (fup D A (nN M)) S := by
      refine ⟨a1.exa f5 hu (by omega) (by omega), by rw [f5.rI (by omega) (by omega)]; exact a2, by omega, by omega, fun i hi => ?_, fun i j hi hj e => ?_, fun i h1 h2 => ?_, a8, fun i hi => ?_⟩
      · by_cases e : i = A
        · rw [e, fup_eq]
          exact ⟨by rw [hM5, rR_eq eA], po5⟩
        · have n1 := st_ne a1 (a5 i (by omega)).2
          rw [fup_ne e]
          refine ⟨?_, (a5 i (by omega)).2.exa f5 hu (by omega) (by omega)⟩
          rw [hM5, rR_ne (by omega), f4.rR (by omega) (fun z => z)]
          exact (a5 i (by omega)).1
      · by_cases e1 : i = A <;> by_cases e2 : j = A
        · omega
        · rw [e1, fup_eq, fup_ne e2] at e; have := D1 j (by omega); omega
        · rw [e2, fup_eq, fup_ne e1] at e; have := D1 i (by omega); omega
        · rw [fup_ne e1, fup_ne e2] at e; exact a6 i j (by omega) (by omega) e
      · rw [hM5, rR_ne (by omega), f4.rR (by omega) (fun z => z)]; exact a7 i (by omega) h2
      · have n1 := st_ne a1 (a5 i (by omega)).2
        rw [fup_ne (by omega), poc.exa f5 hu (a5 i (by omega)).2 (by omega) (by omega)]
        exact a9 i hi
    have nks : k ≠ s + 1 ∧ k + 1 ≠ s + 1 := by
      refine ⟨fun q => ?_, fun q => ?_⟩
      · have := hk.1; rw [q, a1.2.2.1] at this; cases this
      · have := hk.2.2; rw [q, a1.2.2.1] at this; cases this
    have hk5 : isK M5 k := f5.isK hu (by omega) hk
    have ek : kC M5 k = kC M k := f5.kC (by omega) (by omega)
    obtain ⟨M', b1, b2, b3⟩ := c_put62 (n := n) (o := o) (d := d) (w := w) (en := en) st5 hk5 (by rw [f5.kd (by omega)]; exact hk2) (by omega) hn ho hd hw he (by rw [ek]; exact hlo) (by rw [ek]; exact hhi) (by rw [ek]; exact hno)
    rw [ek] at b2
    have dw : DW M A D (A + 1) (insD (fup D A (nN M)) n S.length) := by
      refine ⟨by omega, fun i hi => ?_⟩
      have key : ∀ j, j < A + 1 → (∃ j', j' < A ∧ fup D A (nN M) j = D j') ∨ nN M ≤ fup D A (nN M) j := fun j hj => by
        by_cases e : j = A
        · rw [e, fup_eq]; exact Or.inr (Nat.le_refl _)
        · rw [fup_ne e]; exact Or.inl ⟨j, by omega, rfl⟩
      unfold insD
      by_cases e1 : i < n
      · rw [if_pos e1]; exact key i hi
      · rw [if_neg e1]
        by_cases e2 : i = n
        · rw [if_pos e2]; exact key S.length (by omega)
        · rw [if_neg e2]
          by_cases e3 : i ≤ S.length
          · rw [if_pos e3]; exact key (i - 1) (by omega)
          · rw [if_neg e3]; exact key i hi
    refine ⟨M', A + 1, insD (fup D A (nN M)) n S.length, by rw [← hM5]; exact b1, b2, dw, by rw [b3.nN, f45.nN, n4]; omega, by rw [b3.nU, f45.nU, u4]; omega, (f5.mono (fun q z => Or.inr (Or.inl z))).trC b3 (fun q hq z => ?_)⟩
    rcases z with z | z | ⟨i, i1, i2⟩
    · exact Or.inl z
    · exact Or.inr (Or.inl z)
    · by_cases e : i = A
      · rw [e, fup_eq] at i2; omega
      · rw [fup_ne e] at i2; exact Or.inr (Or.inr ⟨i, by omega, i2⟩)
theorem c_put (h : StC M s A D S) (hu : UN M) (hk : isK M k) (hk2 : kd M k ≠ (3, 32)) (hA : hasP S (ky (kC M k), (o : Int), (d : Int)) = false → S.length < 200) (ho : o < 32) (hd : d < 16) (hw : 1 ≤ w ∧ w ≤ 15) (he : w32 en = en) :
    ∃ M' A' D', f_X18_put (s : Int) (k : Int) (o : Int) (d : Int) w en M = some M' ∧ StC M' s A' D' (putP S (ky (kC M k), (o : Int), (d : Int), w, en)) ∧ DW M A D A' D' ∧ nN M' + 3 * A = nN M + 3 * A' ∧ nU M' + 11 * A = nU M + 11 * A' ∧ ExA (A7 s A D) M M' := by
  obtain ⟨n, b1, b2, b3, b4, b5⟩ := c_at h hk ho hd
  obtain ⟨a1, a2, a3, a4, a5, a6, a7, a8, a9⟩ := id h
  have hky : kyo (ky (kC M k)) := kyo_ky (kC_ok M k)
  have okx : okP (ky (kC M k), (o : Int), (d : Int), w, en) := ⟨hky, ⟨Int.natCast_nonneg o, by show (o : Int) < 32; omega⟩, ⟨Int.natCast_nonneg d, by show (d : Int) < 16; omega⟩, hw, he⟩
  unfold f_X18_put
  rw [ck_e a1.1, b2, Option.bind_some, gfi_e a1.1, a2, Option.bind_some, w32_nn (by omega), w32_nn (by omega)]
  rcases b5 with ⟨c0, c1, v, v1, v2⟩ | ⟨c1, c2⟩
  · rw [if_neg (by omega), gfr_e a1.1, a1.2.1, Option.bind_some, lar_n a1.2.2.1 (by decide) (by omega) (by decide), Option.bind_some, (a5 n (by omega)).1, v1, Option.bind_some, if_pos v2, c_put148 h c0]
    have hc := (a5 n (by omega)).2
    have nn := st_ne a1 hc
    have fr : ExC (fun q => q = D n) M (sI (sI M (D n) 3 w) (D n) 4 en) := ExC.trans (M1 := sI M (D n) 3 w) (ExC_sI (A := fun q => q = D n) rfl) (ExC_sI (A := fun q => q = D n) rfl)
    have eput := putP_set a8 okx c0 (by rw [c1]; rfl)
    refine ⟨_, A, D, rfl, ⟨⟨by rw [fr.kd]; exact a1.1, by rw [fr.rR (by omega)]; exact a1.2.1, by rw [fr.kd]; exact a1.2.2.1, by rw [fr.rR (by omega)]; exact a1.2.2.2.1, by rw [fr.kd]; exact a1.2.2.2.2.1, fr.isK (by omega) a1.2.2.2.2.2⟩, ?_, ?_, a4, fun i hi => ?_, a6, fun i h1 h2 => by rw [fr.rR (by omega)]; exact a7 i h1 h2, ⟨?_, putP_srt a8.2.1 a8.2.2 okx, fun y hy => ?_⟩, fun i hi => ?_⟩, DW.refl, rfl, rfl, (fr.mono (fun q z => Or.inr (Or.inr ⟨n, by omega, Or.inl z⟩))).exa⟩
    · rw [fr.rI (by omega), a2, eput, List.length_set]
    · rw [eput, List.length_set]; exact a3
    · refine ⟨by rw [fr.rR (by omega)]; exact (a5 i hi).1, ?_⟩
      have hci := (a5 i hi).2
      exact hci
    · rw [eput, List.length_set]; exact a8.1
    · rcases putP_mem.mp hy with z | z
      · rw [z]; exact okx
      · exact a8.2.2 y z.1
    · rw [eput, List.length_set] at hi
      rw [eput]
      have hgs : (S.set n (ky (kC M k), (o : Int), (d : Int), w, en)).getD i post0 = if i = n then (ky (kC M k), (o : Int), (d : Int), w, en) else S.getD i post0 := by
        rw [List.getD_eq_getElem?_getD, List.getElem?_set, List.getD_eq_getElem?_getD]
        by_cases e : i = n
        · rw [if_pos e.symm, if_pos e, if_pos (by omega)]; rfl
        · rw [if_neg (Ne.symm e), if_neg e]
      rw [hgs]
      by_cases e : i = n
      · rw [if_pos e, e]
        have c9 := a9 n c0
        have e1 : ky (kC (sI (sI M (D n) 3 w) (D n) 4 en) (D n + 1)) = ky (kC M (D n + 1)) := by rw [fr.kC (by omega)]
        have e2 : pid (poc M (D n)) = pid (S.getD n post0) := by rw [c9]
        rw [c1] at e2
        have e3 : ky (kC M (D n + 1)) = ky (kC M k) := congrArg (·.1) e2
        have e4 : rI M (D n) 1 = (o : Int) := congrArg (·.2.1) e2
        have e5 : rI M (D n) 2 = (d : Int) := congrArg (·.2.2) e2
        unfold poc
        rw [e1, e3, rI_ne (by omega), rI_ne (by omega), rI_ne (by omega), rI_ne (by omega), rI_ne (by omega), rI_eq rfl, rI_eq rfl, e4, e5, he, show w32 w = w from w32_id (by omega) (by omega)]
      · rw [if_neg e, ← a9 i hi]
        have hne : D i ≠ D n := fun q => e (a6 i n (by omega) (by omega) q)
        have n2 := po_ne (a5 i (by omega)).2 hc hne
        unfold poc
        rw [fr.kC (by omega), fr.rI (by omega), fr.rI (by omega), fr.rI (by omega), fr.rI (by omega)]
  · have hS : S.length < 200 := hA (hasP_no.mpr c1)
    obtain ⟨M', A', D', d1, d2⟩ := c_put34 h hu hk hk2 hS b1 ho hd hw he b3 b4 c1
    refine ⟨M', A', D', ?_, d2⟩
    by_cases c0 : n = S.length
    · rw [if_pos (by omega)]; exact d1
    · rcases c2 with c2 | ⟨v, v1, v2⟩
      · omega
      · rw [if_neg (by omega), gfr_e a1.1, a1.2.1, Option.bind_some, lar_n a1.2.2.1 (by decide) (by omega) (by decide), Option.bind_some, (a5 n (by omega)).1, v1, Option.bind_some, if_neg v2]; exact d1
end CKEEP
