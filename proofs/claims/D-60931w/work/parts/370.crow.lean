/-! the class's cells: what changes, but for some cells nothing -/
def ExC (A : Nat → Prop) (M M' : MM) : Prop := (∀ a, ¬ A a → (∀ i, M'.1 a i = M.1 a i) ∧ ∀ i, M'.2.1 a i = M.2.1 a i) ∧ M'.2.2 = M.2.2
section EXC
variable {A B : Nat → Prop} {M M1 M2 : MM} {a k : Nat} {v : Int}
theorem ExC.refl : ExC A M M := ⟨fun _ _ => ⟨fun _ => rfl, fun _ => rfl⟩, rfl⟩
theorem ExC.trans (h1 : ExC A M M1) (h2 : ExC A M1 M2) : ExC A M M2 := ⟨fun a h => ⟨fun i => ((h2.1 a h).1 i).trans ((h1.1 a h).1 i), fun i => ((h2.1 a h).2 i).trans ((h1.1 a h).2 i)⟩, h2.2.trans h1.2⟩
theorem ExC.mono (h : ExC A M M1) (hs : ∀ a, A a → B a) : ExC B M M1 := ⟨fun a hb => h.1 a (fun q => hb (hs a q)), h.2⟩
theorem ExC_sI (h : A a) : ExC A M (sI M a k v) := ⟨fun b hb => ⟨fun i => st2_ne (fun q => hb (by rw [q.1]; exact h)), fun _ => rfl⟩, rfl⟩
theorem ExC_sR (h : A a) : ExC A M (sR M a k v) := ⟨fun b hb => ⟨fun _ => rfl, fun i => st2_ne (fun q => hb (by rw [q.1]; exact h))⟩, rfl⟩
theorem ExC_ex (h : Ex A M M1) : ExC A M M1 := ⟨fun a ha => ⟨h.1 a ha, fun i => by show M1.2.1 a i = M.2.1 a i; rw [h.2]⟩, by rw [h.2]⟩
theorem ExC.rI (h : ExC A M M1) (ha : ¬ A a) (i : Nat) : rI M1 a i = rI M a i := by
  show w32 _ = w32 _
  rw [(h.1 a ha).1 i]
theorem ExC.rR (h : ExC A M M1) (ha : ¬ A a) (i : Nat) : rR M1 a i = rR M a i := (h.1 a ha).2 i
theorem ExC.kd (h : ExC A M M1) (a : Nat) : kd M1 a = kd M a := by
  show M1.2.2.1 a = M.2.2.1 a
  rw [h.2]
theorem ExC.nN (h : ExC A M M1) : nN M1 = nN M := by
  show M1.2.2.2.1 = M.2.2.2.1
  rw [h.2]
theorem ExC.nU (h : ExC A M M1) : nU M1 = nU M := by
  show M1.2.2.2.2 = M.2.2.2.2
  rw [h.2]
theorem ExC.kC (h : ExC A M M1) (ha : ¬ A (a + 1)) : kC M1 a = kC M a := by
  funext i
  exact h.rI ha i
theorem ExC.isK (h : ExC A M M1) (ha : ¬ A a) (hk : isK M a) : isK M1 a := ⟨by rw [h.kd]; exact hk.1, by rw [h.rR ha]; exact hk.2.1, by rw [h.kd]; exact hk.2.2⟩
end EXC
section CTOOLS
variable {M : MM} {a b k l t j ci : Nat} {v : Int}
theorem lar_n (h : kd M a = (k, l)) (h1 : 64 ≤ k ∧ k % 16 = t) (hj : j < l) (hl : l ≤ 2147483647) : lar t (a : Int) (j : Int) M = some (rR M a j) := lar_e h h1.1 h1.2 (w32_nn (by omega)) hj
theorem sar_n (h : kd M a = (k, l)) (h1 : 64 ≤ k ∧ k % 16 = t) (hj : j < l) (hl : l ≤ 2147483647) (hb : (kd M b).1 = ecl t) : sar t (a : Int) (j : Int) (b : Int) M = some (sR M a j (b : Int)) := sar_e h h1.1 h1.2 (w32_nn (by omega)) hj hb
theorem rI_ne {a b j k : Nat} (h : ¬ (b = a ∧ j = k)) : rI (sI M a k v) b j = rI M b j := by rw [rI_sI, if_neg h]
theorem rI_eq {a j k : Nat} (h : j = k) : rI (sI M a k v) a j = w32 v := by rw [rI_sI, if_pos ⟨rfl, h⟩]
theorem rR_ne {a b j k : Nat} (h : ¬ (b = a ∧ j = k)) : rR (sR M a k v) b j = rR M b j := by rw [rR_sR, if_neg h]
theorem rR_eq {a j k : Nat} (h : j = k) : rR (sR M a k v) a j = v := by rw [rR_sR, if_pos ⟨rfl, h⟩]
end CTOOLS
/-! contacts and rows of them -/
def isCt (M : MM) (c : Nat) : Prop := kd M c = (23, 39) ∧ rR M c 0 = ((c + 1 : Nat) : Int) ∧ kd M (c + 1) = (3, 38) ∧ isK M (c + 1)
def ctc (M : MM) (c : Nat) : Ky × Int := (ky (kC M (c + 1)), rI M c 1)
def isRw (M : MM) (r m : Nat) : Prop := (kd M r).1 = 22 ∧ rR M r 0 = ((r + 1 : Nat) : Int) ∧ kd M (r + 1) = (486, m)
def RowC (M : MM) (r m : Nat) (ps : List Nat) : Prop := isRw M r m ∧ rI M r 1 = (ps.length : Int) ∧ ps.length ≤ m ∧ m ≤ 20 ∧ (∀ i, i < ps.length → rR M (r + 1) i = ((ps.getD i 0 : Nat) : Int)) ∧ ∀ c, c ∈ ps → isCt M c
section CROW
variable {A : Nat → Prop} {M M1 : MM} {r m c kx i : Nat} {ps : List Nat} {ad : Int}
theorem isCt.exc (h : ExC A M M1) (h1 : ¬ A c) (h2 : ¬ A (c + 1)) (hc : isCt M c) : isCt M1 c := ⟨by rw [h.kd]; exact hc.1, by rw [h.rR h1]; exact hc.2.1, by rw [h.kd]; exact hc.2.2.1, h.isK h2 hc.2.2.2⟩
theorem ctc.exc (h : ExC A M M1) (h1 : ¬ A c) (h2 : ¬ A (c + 2)) : ctc M1 c = ctc M c := by
  unfold ctc
  rw [h.kC h2, h.rI h1]
theorem RowC.exc (h : ExC A M M1) (h1 : ¬ A r) (h2 : ¬ A (r + 1)) (hc : ∀ c, c ∈ ps → ¬ A c ∧ ¬ A (c + 1)) (hr : RowC M r m ps) : RowC M1 r m ps := by
  obtain ⟨⟨a1, a2, a3⟩, b, c1, d, e, f⟩ := hr
  exact ⟨⟨by rw [h.kd]; exact a1, by rw [h.rR h1]; exact a2, by rw [h.kd]; exact a3⟩, by rw [h.rI h1]; exact b, c1, d, fun i hi => by rw [h.rR h2]; exact e i hi, fun c hcs => (f c hcs).exc h (hc c hcs).1 (hc c hcs).2⟩
/-- a contact is no row and no array -/
theorem ct_ne (hc : isCt M c) (hr : isRw M r m) : c ≠ r ∧ c ≠ r + 1 ∧ c + 1 ≠ r ∧ c + 1 ≠ r + 1 ∧ c + 2 ≠ r ∧ c + 2 ≠ r + 1 := by
  have k2 : kd M (c + 2) = (64, 5) := hc.2.2.2.2.2
  refine ⟨fun q => ?_, fun q => ?_, fun q => ?_, fun q => ?_, fun q => ?_, fun q => ?_⟩
  · have := hr.1; rw [← q, hc.1] at this; cases this
  · have := hr.2.2; rw [← q, hc.1] at this; cases this
  · have := hr.1; rw [← q, hc.2.2.1] at this; cases this
  · have := hr.2.2; rw [← q, hc.2.2.1] at this; cases this
  · have := hr.1; rw [← q, k2] at this; cases this
  · have := hr.2.2; rw [← q, k2] at this; cases this
theorem rw_gf (h : isRw M r m) (M1 : MM) (hk : kd M1 = kd M) (k : Nat) : gfi 22 k (r : Int) M1 = some (rI M1 r k) ∧ gfr 22 k (r : Int) M1 = some (rR M1 r k) := ⟨gfi_e (by rw [hk]; exact h.1), gfr_e (by rw [hk]; exact h.1)⟩
theorem c_isFull (h : RowC M r m ps) : f_X22_isFull (r : Int) M = some (b2i (decide (ps.length = m))) := by
  obtain ⟨hr, h1, h2, h3, h4, h5⟩ := h
  unfold f_X22_isFull j_X22_isFull_17
  rw [gfi_e hr.1, Option.bind_some, gfr_e hr.1, hr.2.1, Option.bind_some, aln_e hr.2.2 (by decide) (by decide), Option.bind_some, h1, w32_nn (by omega), w32_nn (by omega), bz_e (Or.inr rfl), bz_e (Or.inl rfl)]
  by_cases c : ps.length = m
  · rw [if_pos (by omega), decide_eq_true c]; rfl
  · rw [if_neg (by omega), decide_eq_false c]; rfl
theorem c_add (h : RowC M r m ps) (hl : ps.length < m) (hc : isCt M c) : ∃ M', f_X22_add (r : Int) (c : Int) M = some M' ∧ RowC M' r m (ps ++ [c]) ∧ ExC (fun q => q = r ∨ q = r + 1) M M' := by
  obtain ⟨hr, h1, h2, h3, h4, h5⟩ := id h
  have fr : ExC (fun q => q = r ∨ q = r + 1) M (sI (sR M (r + 1) ps.length (c : Int)) r 1 ((ps.length + 1 : Nat) : Int)) := (ExC_sR (Or.inr rfl)).trans (ExC_sI (Or.inl rfl))
  refine ⟨sI (sR M (r + 1) ps.length (c : Int)) r 1 ((ps.length + 1 : Nat) : Int), ?_, ⟨⟨hr.1, ?_, hr.2.2⟩, ?_, by simp; omega, h3, fun i hi => ?_, fun c' hc' => ?_⟩, fr⟩
  · unfold f_X22_add
    rw [gfr_e hr.1, hr.2.1, Option.bind_some, gfi_e hr.1, Option.bind_some, h1, sar_n hr.2.2 (by decide) hl (by omega) (by rw [hc.1]; rfl), Option.bind_some, gfi_e (by rw [kd_sR]; exact hr.1), Option.bind_some, rI_sR, h1, pfi_e (by rw [kd_sR]; exact hr.1), Option.bind_some, cadd1]
  · rw [rR_sI, rR_ne (by omega)]; exact hr.2.1
  · rw [rI_eq rfl, w32_nn (by omega)]; simp
  · rw [List.length_append] at hi
    have hi : i < ps.length + 1 := hi
    rw [getD_snoc hi, rR_sI]
    by_cases q : i = ps.length
    · rw [if_pos q, rR_eq q]
    · rw [if_neg q, rR_ne (by omega)]; exact h4 i (by omega)
  · have hcc : isCt M c' := by
      rcases List.mem_append.mp hc' with q | q
      · exact h5 c' q
      · simp at q; rw [q]; exact hc
    have n := ct_ne hcc hr
    exact hcc.exc fr (by omega) (by omega)
theorem c_remove (h : RowC M r m ps) (hi : i < ps.length) : ∃ M', f_X22_remove (r : Int) (i : Int) M = some (((ps.getD i 0 : Nat) : Int), M') ∧ RowC M' r m (ps.eraseIdx i) ∧ ExC (fun q => q = r ∨ q = r + 1) M M' := by
  obtain ⟨hr, h1, h2, h3, h4, h5⟩ := id h
  obtain ⟨n, hn⟩ : ∃ n, n + 1 = ps.length := ⟨ps.length - 1, by omega⟩
  let M1 := sI M r 1 ((n : Nat) : Int)
  have kd1 : ∀ a, kd M1 a = kd M a := fun _ => rfl
  obtain ⟨⟨z, M'⟩, n2, hn2, ⟨rfl, g1, g2, g3⟩, q2⟩ := lp_inv (b := fun s : Int × MM => b_X22_remove_19 (r : Int) ((ps.getD i 0 : Nat) : Int) s.1 s.2) (fun k s => s.1 = ((i + k : Nat) : Int) ∧ (∀ j, j < i + k → rR s.2 (r + 1) j = (((ps.eraseIdx i).getD j 0 : Nat) : Int)) ∧ (∀ j, i + k ≤ j → rR s.2 (r + 1) j = rR M (r + 1) j) ∧ ExC (fun q => q = r + 1) M1 s.2) (n - i)
    (by
      rintro k ⟨z, U⟩ hk ⟨rfl, g1, g2, g3⟩
      dsimp only at g1 g2 g3 ⊢
      have u1 : rI U r 1 = (n : Int) := by
        rw [g3.rI (by omega)]
        show rI (sI _ _ _ _) _ _ = _
        rw [rI_eq rfl, w32_nn (by omega)]
      have u0 : rR U r 0 = ((r + 1 : Nat) : Int) := by
        rw [g3.rR (by omega)]; exact hr.2.1
      have uk : kd U r = kd M r := g3.kd r
      have uk1 : kd U (r + 1) = (486, m) := by rw [g3.kd]; exact hr.2.2
      have ur : rR U (r + 1) (i + k + 1) = ((ps.getD (i + k + 1) 0 : Nat) : Int) := by rw [g2 _ (by omega)]; exact h4 _ (by omega)
      have hct := h5 _ (getD_mem (d := 0) (show i + k + 1 < ps.length by omega))
      have uct : (kd U (ps.getD (i + k + 1) 0)).1 = ecl 6 := by rw [g3.kd, kd1, hct.1]; rfl
      refine ⟨(((i + k : Nat) : Int) + 1, sR U (r + 1) (i + k) ((ps.getD (i + k + 1) 0 : Nat) : Int)), ?_, by dsimp only; omega, fun j hj => ?_, fun j hj => ?_, g3.trans (ExC_sR rfl)⟩
      · unfold b_X22_remove_19
        rw [gfi_e (by rw [uk]; exact hr.1), Option.bind_some, u1, w32_nn (by omega), w32_nn (by omega), if_pos (by omega), gfr_e (by rw [uk]; exact hr.1), u0, Option.bind_some, Option.bind_some, cadd1, lar_n uk1 (by decide) (by omega) (by omega), Option.bind_some, ur, sar_n uk1 (by decide) (by omega) (by omega) uct, Option.bind_some]
        rfl
      · dsimp only
        by_cases c : j = i + k
        · rw [c, rR_eq rfl]
          congr 1
          rw [List.getD_eq_getElem?_getD, List.getD_eq_getElem?_getD, List.getElem?_eraseIdx, if_neg (by omega)]
        · rw [rR_ne (by omega)]; exact g1 j (by omega)
      · dsimp only
        rw [rR_ne (by omega)]; exact g2 j (by omega)) FU 0 (((i : Nat) : Int), M1) (by omega) (by unfold FU; omega) ⟨rfl, fun j hj => by
        show rR M (r + 1) j = _
        rw [h4 j (by omega)]
        congr 1
        rw [List.getD_eq_getElem?_getD, List.getD_eq_getElem?_getD, List.getElem?_eraseIdx, if_pos (by omega)], fun j _ => rfl, ExC.refl⟩
  dsimp only at g1 g2 g3
  have hlen : (ps.eraseIdx i).length = n := by rw [List.length_eraseIdx_of_lt hi]; omega
  have fr : ExC (fun q => q = r ∨ q = r + 1) M M' := (ExC_sI (Or.inl rfl)).trans (g3.mono (fun a q => Or.inr q))
  have u1 : rI M' r 1 = (n : Int) := by
    rw [g3.rI (by omega)]
    show rI (sI _ _ _ _) _ _ = _
    rw [rI_eq rfl, w32_nn (by omega)]
  refine ⟨M', ?_, ⟨⟨by rw [fr.kd]; exact hr.1, by rw [g3.rR (by omega)]; exact hr.2.1, by rw [fr.kd]; exact hr.2.2⟩, by rw [hlen]; exact u1, by omega, h3, fun j hj => g1 j (by omega), fun c' hc' => ?_⟩, fr⟩
  · unfold f_X22_remove
    rw [gfr_e hr.1, hr.2.1, Option.bind_some, lar_n hr.2.2 (by decide) (by omega) (by omega), Option.bind_some, h4 i hi, gfi_e hr.1, Option.bind_some, h1, pfi_e hr.1, Option.bind_some, show (ps.length : Int) - 1 = (n : Int) by omega]
    unfold l_X22_remove_19
    refine q2.trans ?_
    refine lpN_end (b := fun s : Int × MM => b_X22_remove_19 (r : Int) ((ps.getD i 0 : Nat) : Int) s.1 s.2) hn2 ?_
    dsimp only
    unfold b_X22_remove_19
    rw [gfi_e (by rw [fr.kd]; exact hr.1), Option.bind_some, u1, w32_nn (by omega), w32_nn (by omega), if_neg (by omega)]
  · have hcc := h5 c' (List.mem_of_mem_eraseIdx hc')
    have nn' := ct_ne hcc hr
    exact hcc.exc fr (by omega) (by omega)
theorem c_touch (h : RowC M r m ps) (hi : i < ps.length) : ∃ M', f_X22_touch (r : Int) (i : Int) M = some M' ∧ RowC M' r m (ps.eraseIdx i ++ [ps.getD i 0]) ∧ ExC (fun q => q = r ∨ q = r + 1) M M' := by
  obtain ⟨M1, a1, a2, a3⟩ := c_remove h hi
  have hct := h.2.2.2.2.2 _ (getD_mem (d := 0) hi)
  have n := ct_ne hct h.1
  have hl : (ps.eraseIdx i).length < m := by rw [List.length_eraseIdx_of_lt hi]; have := h.2.2.1; omega
  obtain ⟨M2, b1, b2, b3⟩ := c_add a2 hl (hct.exc a3 (by omega) (by omega))
  refine ⟨M2, ?_, b2, a3.trans b3⟩
  unfold f_X22_touch
  rw [ck_e h.1.1, a1, Option.bind_some]
  dsimp only
  rw [ck_e a2.1.1, b1, Option.bind_some]
theorem c_find (h : RowC M r m ps) (hk : isK M kx) : (∃ i, i < ps.length ∧ f_X22_find (r : Int) (kx : Int) M = some (i : Int) ∧ (ctc M (ps.getD i 0)).1 = ky (kC M kx)) ∨ (f_X22_find (r : Int) (kx : Int) M = some (-1) ∧ ∀ c, c ∈ ps → (ctc M c).1 ≠ ky (kC M kx)) := by
  obtain ⟨hr, h1, h2, h3, h4, h5⟩ := id h
  have fnd0 := lp_find (b := fun s : Int => b_X22_find_2 (r : Int) (kx : Int) s M) (fun i => ((i : Nat) : Int)) ps.length (fun i => decide ((ctc M (ps.getD i 0)).1 = ky (kC M kx))) (fun i => some ((i : Nat) : Int)) (some (-1))
    (fun i hi => by
      show b_X22_find_2 (r : Int) (kx : Int) ((i : Nat) : Int) M = _
      have hct := h5 _ (getD_mem (d := 0) hi)
      have hrc := h4 i hi
      generalize ps.getD i 0 = c at hct hrc
      unfold b_X22_find_2
      rw [gfi_e hr.1, Option.bind_some, h1, w32_nn (by omega), w32_nn (by omega), if_pos (by omega), gfr_e hr.1, hr.2.1, Option.bind_some, lar_n hr.2.2 (by decide) (by omega) (by omega), Option.bind_some, hrc, gfr_e (by rw [hct.1]), hct.2.1, Option.bind_some, ck_e hct.2.2.2.1, e_X3_is hct.2.2.2 hk, Option.bind_some]
      have hq : kcom (kC M (c + 1)) (kC M kx) = 160 ↔ (ctc M c).1 = ky (kC M kx) := by
        rw [kcom_160 (kC_ok _ _) (kC_ok _ _), ← ky_eq]; rfl
      by_cases cq : (ctc M c).1 = ky (kC M kx)
      · rw [if_pos (hq.mpr cq), w32_1, if_neg (by decide), if_pos (by simpa using cq)]
      · rw [if_neg (fun z => cq (hq.mp z)), w32_0, if_pos rfl, if_neg (by simpa using cq)]
        rfl)
    (by
      show b_X22_find_2 (r : Int) (kx : Int) ((ps.length : Nat) : Int) M = _
      unfold b_X22_find_2
      rw [gfi_e hr.1, Option.bind_some, h1, if_neg (by omega)]) FU (by unfold FU; omega)
  rcases fnd0 with ⟨i, hi, hc, -, e⟩ | ⟨hc, e⟩
  · exact Or.inl ⟨i, hi, e, by simpa using hc⟩
  · refine Or.inr ⟨e, fun c hcs => ?_⟩
    obtain ⟨i, hi, rfl⟩ := List.mem_iff_getElem.mp hcs
    have := hc i hi
    have e2 : ps.getD i 0 = ps[i] := by grind
    rw [e2] at this
    simpa using this
end CROW
