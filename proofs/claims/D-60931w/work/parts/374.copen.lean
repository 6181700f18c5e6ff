section COPEN
variable {A : Nat → Prop} {M M1 : MM} {ow ow1 : Nat → Nat × Nat} {t ko m n bA i j c : Nat} {own : Ky} {T : List Row} {pf : Nat → Bool} {B : Nat → Nat} {P : Nat → Bool → List Nat} {b : Bool}
/-- a new bucket -/
theorem c_newBk (hu : UN M) (hm : m ≤ 20) : ∃ M4, f_X21_init ((nN M : Nat) : Int) (m : Int) (nwo M 21 3 25) = some M4 ∧ isBk M4 (nN M) m ∧ RowC M4 (nN M + 1) m [] ∧ RowC M4 (nN M + 3) m [] ∧ nN M4 = nN M + 5 ∧ nU M4 = nU M + (7 + 2 * m) ∧ ExA (fun _ => False) M M4 := by
  generalize hn : nN M = n
  obtain ⟨Ma, hMa⟩ : ∃ Ma, Ma = nwo M 21 3 25 := ⟨_, rfl⟩
  obtain ⟨Mb, hMb⟩ : ∃ Mb, Mb = nwo Ma 22 2 23 := ⟨_, rfl⟩
  obtain ⟨Mc, hMc⟩ : ∃ Mc, Mc = nw Mb 486 m := ⟨_, rfl⟩
  obtain ⟨Md, hMd⟩ : ∃ Md, Md = sR (sR Mc (n + 1) 0 ((n + 2 : Nat) : Int)) n 0 ((n + 1 : Nat) : Int) := ⟨_, rfl⟩
  obtain ⟨Me, hMe⟩ : ∃ Me, Me = nwo Md 22 2 24 := ⟨_, rfl⟩
  obtain ⟨Mf, hMf⟩ : ∃ Mf, Mf = nw Me 486 m := ⟨_, rfl⟩
  obtain ⟨M4, hM4⟩ : ∃ M4, M4 = sR (sR Mf (n + 3) 0 ((n + 4 : Nat) : Int)) n 1 ((n + 3 : Nat) : Int) := ⟨_, rfl⟩
  have na : nN Ma = n + 1 := by rw [hMa, nN_nwo, hn]
  have nb : nN Mb = n + 2 := by rw [hMb, nN_nwo, na]
  have nc : nN Mc = n + 3 := by rw [hMc, nN_nw, nb]
  have nd : nN Md = n + 3 := by rw [hMd]; exact nc
  have ne : nN Me = n + 4 := by rw [hMe, nN_nwo, nd]
  have nf : nN Mf = n + 5 := by rw [hMf, nN_nw, ne]
  have ka : ∀ z, kd Ma z = if z = n then (21, 25) else kd M z := fun z => by rw [hMa, kd_nwo, hn]
  have kb : ∀ z, kd Mb z = if z = n + 1 then (22, 23) else kd Ma z := fun z => by rw [hMb, kd_nwo, na]
  have kc' : ∀ z, kd Mc z = if z = n + 2 then (486, m) else kd Mb z := fun z => by rw [hMc, kd_nw, nb]
  have kd' : ∀ z, kd Md z = kd Mc z := fun z => by rw [hMd]; rfl
  have ke : ∀ z, kd Me z = if z = n + 3 then (22, 24) else kd Md z := fun z => by rw [hMe, kd_nwo, nd]
  have kf' : ∀ z, kd Mf z = if z = n + 4 then (486, m) else kd Me z := fun z => by rw [hMf, kd_nw, ne]
  have k4 : ∀ z, kd M4 z = kd Mf z := fun z => by rw [hM4]; rfl
  have w1 : kd M4 n = (21, 25) := by rw [k4, kf', if_neg (by omega), ke, if_neg (by omega), kd', kc', if_neg (by omega), kb, if_neg (by omega), ka, if_pos rfl]
  have w2 : kd M4 (n + 1) = (22, 23) := by rw [k4, kf', if_neg (by omega), ke, if_neg (by omega), kd', kc', if_neg (by omega), kb, if_pos rfl]
  have w3 : kd M4 (n + 2) = (486, m) := by rw [k4, kf', if_neg (by omega), ke, if_neg (by omega), kd', kc', if_pos rfl]
  have w4 : kd M4 (n + 3) = (22, 24) := by rw [k4, kf', if_neg (by omega), ke, if_pos rfl]
  have w5 : kd M4 (n + 4) = (486, m) := by rw [k4, kf', if_pos rfl]
  have rd : ∀ z k, z ≠ n → z ≠ n + 1 → rR Md z k = rR Mc z k := fun z k h1 h2 => by rw [hMd, rR_ne (by omega), rR_ne (by omega)]
  have rf : ∀ z k, z ≠ n + 4 → z ≠ n + 3 → rR Mf z k = rR Md z k := fun z k h1 h2 => by rw [hMf, rR_nw, if_neg (by omega), hMe, rR_nwo, if_neg (by omega)]
  have v1 : rR M4 n 0 = ((n + 1 : Nat) : Int) := by rw [hM4, rR_ne (by omega), rR_ne (by omega), rf _ _ (by omega) (by omega), hMd, rR_eq rfl]
  have v2 : rR M4 n 1 = ((n + 3 : Nat) : Int) := by rw [hM4, rR_eq rfl]
  have v3 : rR M4 (n + 1) 0 = ((n + 1 + 1 : Nat) : Int) := by rw [hM4, rR_ne (by omega), rR_ne (by omega), rf _ _ (by omega) (by omega), hMd, rR_ne (by omega), rR_eq rfl]
  have v4 : rR M4 (n + 3) 0 = ((n + 3 + 1 : Nat) : Int) := by rw [hM4, rR_ne (by omega), rR_eq rfl]
  have z1 : rI M4 (n + 1) 1 = 0 := by
    rw [hM4]
    show rI Mf (n + 1) 1 = 0
    rw [hMf, rI_nw, if_neg (by omega), hMe, rI_nwo, if_neg (by omega)]
    show rI Md (n + 1) 1 = 0
    rw [hMd]
    show rI Mc (n + 1) 1 = 0
    rw [hMc, rI_nw, if_neg (by omega), hMb, rI_nwo, if_pos na.symm]
  have z3 : rI M4 (n + 3) 1 = 0 := by
    rw [hM4]
    show rI Mf (n + 3) 1 = 0
    rw [hMf, rI_nw, if_neg (by omega), hMe, rI_nwo, if_pos nd.symm]
  have q1 : isRw M4 (n + 1) m := ⟨by rw [w2], v3, w3⟩
  have q3 : isRw M4 (n + 3) m := ⟨by rw [w4], v4, w5⟩
  refine ⟨M4, ?_, ⟨w1, v1, v2, q1, q3⟩, ⟨q1, by rw [z1]; rfl, by simp, hm, fun i hi => by simp at hi, fun c hc => by simp at hc⟩, ⟨q3, by rw [z3]; rfl, by simp, hm, fun i hi => by simp at hi, fun c hc => by simp at hc⟩, by rw [hM4]; exact nf, ?_, ?_⟩
  · rw [← hMa]
    unfold f_X21_init f_X22_init
    rw [nn_e, nob_e, Option.bind_some]
    dsimp only
    rw [na, nn_e, nn_e, ← hMb, nar_e (j := m) (w32_nn (by omega)) (by omega), Option.bind_some]
    dsimp only
    rw [nb, ← hMc, pfr_e (by rw [kc', if_neg (by omega), kb, if_pos rfl]), Option.bind_some, Option.bind_some, pfr_e (by rw [kd_sR, kc', if_neg (by omega), kb, if_neg (by omega), ka, if_pos rfl]), Option.bind_some, ← hMd, nob_e, Option.bind_some]
    dsimp only
    rw [nd, nn_e, nn_e, ← hMe, nar_e (j := m) (w32_nn (by omega)) (by omega), Option.bind_some]
    dsimp only
    rw [ne, ← hMf, pfr_e (by rw [kf', if_neg (by omega), ke, if_pos rfl]), Option.bind_some, Option.bind_some, pfr_e (by rw [kd_sR, kf', if_neg (by omega), ke, if_neg (by omega), kd', kc', if_neg (by omega), kb, if_neg (by omega), ka, if_pos rfl]), Option.bind_some, ← hM4]
  · rw [hM4]
    show nU Mf = _
    rw [hMf, nU_nw, hMe, nU_nwo, hMd]
    show nU Mc + 2 + m = _
    rw [hMc, nU_nw, hMb, nU_nwo, hMa, nU_nwo]
    omega
  · have f1 : ExA (fun _ => False) M Mc := by rw [hMc, hMb, hMa]; exact (ExA_nwo.trans ExA_nwo).trans ExA_nw
    have f2 : ExA (fun _ => False) M Md := by rw [hMd]; exact (f1.newR (by omega)).newR (by omega)
    have f3 : ExA (fun _ => False) M Mf := by rw [hMf, hMe]; exact (f2.trans ExA_nwo).trans ExA_nw
    rw [hM4]; exact (f3.newR (by omega)).newR (by omega)
/-- the last part of it: the bucket is as good as new -/
theorem c_open32 (hS : TabS M t ko m n) (hB : BkS M ow t m bA B) (hn : n < bA) : ∃ M', j_X20_open_32 (t : Int) M = some (((B n : Nat) : Int), M') ∧ TabS M' t ko m (n + 1) ∧ kC M' ko = kC M ko ∧ rI M' (B n) 2 = 0 ∧ (∀ j, j < bA → j ≠ n → rI M' (B j) 2 = rI M (B j) 2) ∧ ExC (fun q => q = t ∨ q = B n) M M' ∧ ∀ a k, rR M' a k = rR M a k := by
  obtain ⟨h1, h2, h3, h4, h5, h6, h7, h8, h9⟩ := id hS
  have hb := hB.1
  have hbk := (hB.2.1 n hn).2.1
  have ntb : ∀ j, j < bA → t ≠ B j := fun j hj q => by have := (hB.2.1 j hj).2.1.1; rw [← q] at this; rw [this] at h1; cases h1
  have e3 : (kd M (B n)).1 = 21 := by rw [hbk.1]
  have fr : ExC (fun q => q = t ∨ q = B n) M (sI (sI M (B n) 2 0) t 4 ((n + 1 : Nat) : Int)) := (ExC_sI (Or.inr rfl)).trans (ExC_sI (Or.inl rfl))
  have nk : ∀ z, (z = ko ∨ z = ko + 1 ∨ z = t + 1) → ¬ (z = t ∨ z = B n) := by
    intro z hz q
    have kz : (kd M z).1 = 3 ∨ (kd M z).1 = 64 ∨ (kd M z).1 = 588 := by
      rcases hz with e | e | e
      · rw [e, h3.1]; exact Or.inl rfl
      · rw [e, h3.2.2]; exact Or.inr (Or.inl rfl)
      · rw [e, h7]; exact Or.inr (Or.inr rfl)
    rcases q with q | q
    · rw [q, h1] at kz; omega
    · rw [q, e3] at kz; omega
  refine ⟨sI (sI M (B n) 2 0) t 4 ((n + 1 : Nat) : Int), ?_, ⟨h1, h2, fr.isK (nk ko (Or.inl rfl)) h3, ?_, h5, h6, h7, ?_, h9⟩, fr.kC (nk (ko + 1) (Or.inr (Or.inl rfl))), ?_, fun j hj hne => ?_, fr, fun a k => rfl⟩
  · unfold j_X20_open_32
    rw [gfr_e h1, h6, Option.bind_some, gfi_e h1, Option.bind_some, h8, lar_n h7 (by decide) (by omega) (by decide), Option.bind_some, (hB.2.1 n hn).1, pfz_e e3 (Or.inl rfl), Option.bind_some, gfi_e (by rw [kd_sI]; exact h1), Option.bind_some, rI_ne (by have := ntb n hn; omega), h8, pfi_e (by rw [kd_sI]; exact h1), Option.bind_some, cadd1]
  · rw [rI_ne (by omega), rI_ne (by have := ntb n hn; omega)]; exact h4
  · rw [rI_eq rfl, w32_nn (by omega)]
  · rw [rI_ne (by have := ntb n hn; omega), rI_eq rfl]; rfl
  · rw [rI_ne (by have := ntb j hj; omega), rI_ne (fun q => hne (hB.2.2.1 j n hj hn q.1))]
/-- parts of a table that no one writes -/
theorem BkS.exa (h : ExA A M M1) (hu : UN M) (hS : TabS M t ko m n) (hB : BkS M ow t m bA B) (h1 : ¬ A (t + 1)) (h2 : ∀ j, j < bA → ∀ k, rR M1 (B j) k = rR M (B j) k) (h3 : ∀ j b, j < bA → ¬ A (rwA B j b)) : BkS M1 ow t m bA B := by
  have l1 : t + 1 < nN M := hu.lt (by rw [hS.2.2.2.2.2.2.1]; decide)
  refine ⟨hB.1, fun j hj => ⟨by rw [h.rR l1 h1]; exact (hB.2.1 j hj).1, ?_, (hB.2.1 j hj).2.2⟩, hB.2.2.1, fun j a1 a2 => by rw [h.rR l1 h1]; exact hB.2.2.2 j a1 a2⟩
  have z := (hB.2.1 j hj).2.1
  have lr : ∀ b, rwA B j b + 1 < nN M := fun b => isRw_lt hu (isBk_row z)
  have rr : ∀ b, isRw M1 (rwA B j b) m := fun b => by
    have q : isRw M (rwA B j b) m := isBk_row z
    exact ⟨by rw [h.kd (by have := lr b; omega)]; exact q.1, by rw [h.rR (by have := lr b; omega) (h3 j b hj)]; exact q.2.1, by rw [h.kd (lr b)]; exact q.2.2⟩
  have lb : B j < nN M := hu.lt (by rw [z.1]; decide)
  exact ⟨by rw [h.kd lb]; exact z.1, by rw [h2 j hj]; exact z.2.1, by rw [h2 j hj]; exact z.2.2.1, rr false, rr true⟩
theorem c_open (hu : UN M) (hS : TabS M t ko m n) (hB : BkS M ow t m bA B) (hP : PtS M ow t m bA B P) (hn : n ≤ bA) (hn2 : n < 160) (hE : ∀ i b, n ≤ i → i < bA → P i b = []) :
    ∃ (M' : MM) (ow' : Nat → Nat × Nat) (bA' : Nat) (B' : Nat → Nat) (P' : Nat → Bool → List Nat), f_X20_open (t : Int) M = some (((B' n : Nat) : Int), M') ∧ TabS M' t ko m (n + 1) ∧ kC M' ko = kC M ko ∧ BkS M' ow' t m bA' B' ∧ PtS M' ow' t m bA' B' P' ∧ n < bA' ∧ (∀ i, i < bA → B' i = B i ∧ P' i = P i) ∧ (∀ i b, n ≤ i → i < bA' → P' i b = []) ∧ rI M' (B' n) 2 = 0 ∧ (∀ i, i < bA → i ≠ n → rI M' (B' i) 2 = rI M (B i) 2) ∧ ((bA' = bA ∧ ow' = ow ∧ nN M' = nN M ∧ nU M' = nU M) ∨ (n = bA ∧ bA' = bA + 1 ∧ (∀ z, z < nN M → ow' z = ow z) ∧ nN M' = nN M + 5 ∧ nU M' = nU M + (7 + 2 * m) ∧ B' n = nN M)) ∧ ExA (fun q => q = t ∨ q = t + 1 ∨ (n < bA ∧ q = B n)) M M' := by
  obtain ⟨h1, h2, h3, h4, h5, h6, h7, h8, h9⟩ := id hS
  have hb := hB.1
  have lt1 : t + 1 < nN M := hu.lt (by rw [h7]; decide)
  have ltt : t < nN M := hu.lt (by rw [h1]; decide)
  unfold f_X20_open
  rw [gfr_e h1, h6, Option.bind_some, Option.bind_some, gfi_e h1, Option.bind_some, Option.bind_some, h8, lar_n h7 (by decide) (by omega) (by decide), Option.bind_some]
  by_cases c0 : n < bA
  · rw [(hB.2.1 n c0).1, if_neg (by omega)]
    obtain ⟨M', a1, a2, a3, a4, a5, a6, a7⟩ := c_open32 hS hB c0
    have hbn := (hB.2.1 n c0).2.1.1
    have nkk : ∀ z, (kd M z).1 ≠ 20 → (kd M z).1 ≠ 21 → ¬ (z = t ∨ z = B n) := fun z q1 q2 q => by
      rcases q with q | q
      · exact q1 (by rw [q]; exact h1)
      · exact q2 (by rw [q, hbn])
    have hB' : BkS M' ow t m bA B := BkS.exa (ExC.exa a6) hu hS hB (nkk _ (by rw [h7]; decide) (by rw [h7]; decide)) (fun j hj k => a7 _ _) (fun j b hj => by
      have z := isBk_row (b := b) (hB.2.1 j hj).2.1
      exact nkk _ (by rw [z.1]; decide) (by rw [z.1]; decide))
    have hP' : PtS M' ow t m bA B P := fun i b hi => by
      obtain ⟨p1, p2, p3⟩ := hP i b hi
      refine ⟨p1.exc a6 (nkk _ (by rw [p1.1.1]; decide) (by rw [p1.1.1]; decide)) (nkk _ (by rw [p1.1.2.2]; show (486 : Nat) ≠ 20; decide) (by rw [p1.1.2.2]; show (486 : Nat) ≠ 21; decide)) (fun c hc => ?_), p2, p3⟩
      have hcc := p1.2.2.2.2.2 c hc
      exact ⟨nkk _ (by rw [hcc.1]; decide) (by rw [hcc.1]; decide), nkk _ (by rw [hcc.2.2.1]; decide) (by rw [hcc.2.2.1]; decide)⟩
    exact ⟨M', ow, bA, B, P, a1, a2, a3, hB', hP', c0, fun i _ => ⟨rfl, rfl⟩, hE, a4, fun i hi hne => a5 i hi hne, Or.inl ⟨rfl, rfl, a6.nN, a6.nU⟩, (ExC.exa a6).mono (fun q hq => by
      rcases hq with e | e
      · exact Or.inl e
      · exact Or.inr (Or.inr ⟨c0, e⟩))⟩
  · have en : n = bA := by omega
    rw [hB.2.2.2 n (by omega) hn2, if_pos rfl, nob_e, Option.bind_some]
    dsimp only
    obtain ⟨M4, k1, k2, k3, k3', k5, k6, k7⟩ := c_newBk (m := m) hu h9.2
    generalize hN : nN M = N at *
    have gm : gfi 20 1 (t : Int) (nwo M 21 3 25) = some (m : Int) := by
      rw [gfi_e (by rw [kd_nwo, if_neg (by omega)]; exact h1), rI_nwo, if_neg (by omega), h4]
    rw [gm, Option.bind_some, nn_e, k1, Option.bind_some]
    have kt4 : (kd M4 t).1 = 20 := by rw [k7.kd (by omega)]; exact h1
    have kt41 : kd M4 (t + 1) = (588, 160) := by rw [k7.kd (by omega)]; exact h7
    rw [sar_n kt41 (by decide) hn2 (by decide) (by rw [k2.1]; rfl), Option.bind_some]
    obtain ⟨M5, hM5⟩ : ∃ M5, M5 = sR M4 (t + 1) n ((N : Nat) : Int) := ⟨_, rfl⟩
    rw [← hM5]
    have f45 : ExC (fun q => q = t + 1) M4 M5 := by rw [hM5]; exact ExC_sR rfl
    have f5 : ExA (fun q => q = t + 1) M M5 := (k7.mono (fun q hq => hq.elim)).trans (ExC.exa f45)
    have hu5 : UN M5 := f5.2.1 hu
    have nk1 : ∀ z, (kd M z).1 ≠ 588 → ¬ z = t + 1 := fun z q1 q => q1 (by rw [q, h7])
    let B' : Nat → Nat := fup B n N
    let ow' : Nat → Nat × Nat := fup ow N (t, 0)
    let P' : Nat → Bool → List Nat := fup P n (fun _ => [])
    have hbl : ∀ j, j < bA → B j < N := fun j hj => by rw [← hN]; exact hu.lt (by rw [(hB.2.1 j hj).2.1.1]; decide)
    have hS5 : TabS M5 t ko m n := by
      have lk := isK_lt hu h3
      refine ⟨by rw [f5.kd (by omega)]; exact h1, by rw [f5.rR (by omega) (by omega)]; exact h2, f5.isK hu (nk1 _ (by rw [h3.1]; decide)) h3, by rw [f5.rI (by omega) (by omega)]; exact h4, by rw [f5.rR (by omega) (by omega)]; exact h5, by rw [f5.rR (by omega) (by omega)]; exact h6, by rw [f5.kd (by omega)]; exact h7, by rw [f5.rI (by omega) (by omega)]; exact h8, h9⟩
    have bk5 : ∀ j, j < bA → isBk M5 (B j) m := fun j hj => by
      have z := (hB.2.1 j hj).2.1
      have lr : ∀ b, rwA B j b + 1 < nN M := fun b => isRw_lt hu (isBk_row z)
      have rr : ∀ b, isRw M5 (rwA B j b) m := fun b => by
        have q : isRw M (rwA B j b) m := isBk_row z
        exact ⟨by rw [f5.kd (by have := lr b; omega)]; exact q.1, by rw [f5.rR (by have := lr b; omega) (nk1 _ (by rw [q.1]; decide))]; exact q.2.1, by rw [f5.kd (lr b)]; exact q.2.2⟩
      have lb := hbl j hj
      exact ⟨by rw [f5.kd (by omega)]; exact z.1, by rw [f5.rR (by omega) (nk1 _ (by rw [z.1]; decide))]; exact z.2.1, by rw [f5.rR (by omega) (nk1 _ (by rw [z.1]; decide))]; exact z.2.2.1, rr false, rr true⟩
    have bkN : isBk M5 N m := by
      have w : ∀ z, z ≠ t + 1 → rR M5 z 0 = rR M4 z 0 ∧ rR M5 z 1 = rR M4 z 1 := fun z hz => ⟨f45.rR hz 0, f45.rR hz 1⟩
      obtain ⟨y1, y2, y3, y4, y5⟩ := k2
      exact ⟨by rw [f45.kd]; exact y1, by rw [(w N (by omega)).1]; exact y2, by rw [(w N (by omega)).2]; exact y3, isRw.ofkd f45 (w _ (by omega)).1 y4, isRw.ofkd f45 (w _ (by omega)).1 y5⟩
    have hB5 : BkS M5 ow' t m (bA + 1) B' := by
      refine ⟨by omega, fun j hj => ?_, fun i j hi hj hij => ?_, fun j a1 a2 => ?_⟩
      · by_cases q : j = n
        · subst q
          show rR M5 (t + 1) j = ((fup B j N j : Nat) : Int) ∧ isBk M5 (fup B j N j) m ∧ fup ow N (t, 0) (fup B j N j) = (t, 0)
          rw [fup_eq, fup_eq]
          exact ⟨by rw [hM5, rR_eq rfl], bkN, rfl⟩
        · show rR M5 (t + 1) j = ((fup B n N j : Nat) : Int) ∧ isBk M5 (fup B n N j) m ∧ fup ow N (t, 0) (fup B n N j) = (t, 0)
          rw [fup_ne q]
          have lb := hbl j (by omega)
          rw [fup_ne (show B j ≠ N by omega)]
          refine ⟨?_, bk5 j (by omega), (hB.2.1 j (by omega)).2.2⟩
          rw [hM5, rR_ne (by omega), k7.rR (by omega) (fun z => z)]
          exact (hB.2.1 j (by omega)).1
      · have hij : fup B n N i = fup B n N j := hij
        by_cases qi : i = n
        · by_cases qj : j = n
          · omega
          · rw [qi, fup_eq, fup_ne qj] at hij
            have := hbl j (by omega); omega
        · by_cases qj : j = n
          · rw [qj, fup_eq, fup_ne qi] at hij
            have := hbl i (by omega); omega
          · rw [fup_ne qi, fup_ne qj] at hij
            exact hB.2.2.1 i j (by omega) (by omega) hij
      · rw [hM5, rR_ne (by omega), k7.rR (by omega) (fun z => z)]
        exact hB.2.2.2 j (by omega) a2
    have rwo : ∀ i b, i ≠ n → rwA B' i b = rwA B i b := fun i b q => by
      show (if b = true then fup B n N i + 3 else fup B n N i + 1) = _
      rw [fup_ne q]; rfl
    have hP5 : PtS M5 ow' t m (bA + 1) B' P' := fun i b hi => by
      by_cases q : i = n
      · subst q
        show RowC M5 (rwA B' i b) m (fup P i (fun _ => []) i b) ∧ _
        have e1 : rwA B' i b = if b = true then N + 3 else N + 1 := by
          show (if b = true then fup B i N i + 3 else fup B i N i + 1) = _
          rw [fup_eq]
        have e2 : P' i b = [] := by show fup P i (fun _ => []) i b = []; rw [fup_eq]
        rw [fup_eq, e1, e2]
        refine ⟨?_, by simp, fun c hc => by simp at hc⟩
        cases b
        · show RowC M5 (N + 1) m []
          exact k3.exc f45 (by omega) (by omega) (fun c hc => by simp at hc)
        · show RowC M5 (N + 3) m []
          exact k3'.exc f45 (by omega) (by omega) (fun c hc => by simp at hc)
      · obtain ⟨p1, p2, p3⟩ := hP i b (by omega)
        have e2 : P' i b = P i b := by show fup P n (fun _ => []) i b = _; rw [fup_ne q]
        rw [rwo i b q, e2]
        refine ⟨p1.exa f5 hu (nk1 _ (by rw [p1.1.1]; decide)) (nk1 _ (by rw [p1.1.2.2]; show (486 : Nat) ≠ 588; decide)) (fun c hc => ?_), p2, fun c hc => ?_⟩
        · have hcc := p1.2.2.2.2.2 c hc
          exact ⟨nk1 _ (by rw [hcc.1]; decide), nk1 _ (by rw [hcc.2.2.1]; decide)⟩
        · have hcc := p1.2.2.2.2.2 c hc
          have lc := isCt_lt hu hcc
          show fup ow N (t, 0) c = _
          rw [fup_ne (by omega)]
          exact p3 c hc
    obtain ⟨M', a1, a2, a3, a4, a5, a6, a7⟩ := c_open32 hS5 hB5 (by omega)
    have hbn : (kd M5 (B' n)).1 = 21 := by rw [(hB5.2.1 n (by omega)).2.1.1]
    have h15 := hS5.1
    have nkk : ∀ z, (kd M5 z).1 ≠ 20 → (kd M5 z).1 ≠ 21 → ¬ (z = t ∨ z = B' n) := fun z q1 q2 q => by
      rcases q with q | q
      · exact q1 (by rw [q]; exact h15)
      · exact q2 (by rw [q]; exact hbn)
    have hB' : BkS M' ow' t m (bA + 1) B' := BkS.exa (ExC.exa a6) hu5 hS5 hB5 (nkk _ (by rw [hS5.2.2.2.2.2.2.1]; decide) (by rw [hS5.2.2.2.2.2.2.1]; decide)) (fun j hj k => a7 _ _) (fun j b hj => by
      have z := isBk_row (b := b) (hB5.2.1 j hj).2.1
      exact nkk _ (by rw [z.1]; decide) (by rw [z.1]; decide))
    have hP' : PtS M' ow' t m (bA + 1) B' P' := fun i b hi => by
      obtain ⟨p1, p2, p3⟩ := hP5 i b hi
      refine ⟨p1.exc a6 (nkk _ (by rw [p1.1.1]; decide) (by rw [p1.1.1]; decide)) (nkk _ (by rw [p1.1.2.2]; show (486 : Nat) ≠ 20; decide) (by rw [p1.1.2.2]; show (486 : Nat) ≠ 21; decide)) (fun c hc => ?_), p2, p3⟩
      have hcc := p1.2.2.2.2.2 c hc
      exact ⟨nkk _ (by rw [hcc.1]; decide) (by rw [hcc.1]; decide), nkk _ (by rw [hcc.2.2.1]; decide) (by rw [hcc.2.2.1]; decide)⟩
    have hkk : kC M5 ko = kC M ko := f5.kC (by have := isK_lt hu h3; omega) (nk1 _ (by rw [h3.2.2]; decide))
    have bN : B' n = N := fup_eq
    refine ⟨M', ow', bA + 1, B', P', a1, a2, by rw [a3, hkk], hB', hP', by omega, fun i hi => ⟨fup_ne (by omega), fup_ne (by omega)⟩, fun i b h1 h2 => ?_, a4, fun i hi hne => ?_, Or.inr ⟨en, rfl, fun z hz => fup_ne (by omega), by rw [a6.nN, f45.nN]; exact k5, by rw [a6.nU, f45.nU]; exact k6, bN⟩, ?_⟩
    · have : i = n := by omega
      show fup P n (fun _ => []) i b = []
      rw [this, fup_eq]
    · rw [a5 i (by omega) hne]
      show rI M5 (fup B n N i) 2 = _
      rw [fup_ne hne]
      exact f5.rI (by have := hbl i hi; omega) (nk1 _ (by rw [(hB.2.1 i hi).2.1.1]; decide)) 2
    · have t1 := f5.mono (B := fun q => q = t ∨ q = t + 1 ∨ (n < bA ∧ q = B n)) (fun q hq => Or.inr (Or.inl hq))
      refine ⟨by rw [a6.nN]; exact t1.1, fun hu b hb => by rw [a6.kd]; exact t1.2.1 hu b (by rw [a6.nN] at hb; exact hb), fun b hb => by rw [a6.kd]; exact t1.2.2.1 b hb, fun z hz hA => ?_⟩
      have t2 := a6.1 z (by rw [bN]; omega)
      have t3 := t1.2.2.2 z hz hA
      exact ⟨fun i => (t2.1 i).trans (t3.1 i), fun i => (t2.2 i).trans (t3.2 i)⟩
end COPEN
