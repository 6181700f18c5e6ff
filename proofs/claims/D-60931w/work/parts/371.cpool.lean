/-! but for some cells nothing of what was changes; there may be new cells -/
def ExA (A : Nat → Prop) (M M' : MM) : Prop := nN M ≤ nN M' ∧ (UN M → UN M') ∧ (∀ a, a < nN M → kd M' a = kd M a) ∧ ∀ a, a < nN M → ¬ A a → (∀ i, M'.1 a i = M.1 a i) ∧ ∀ i, M'.2.1 a i = M.2.1 a i
section EXA
variable {A B : Nat → Prop} {M M1 M2 : MM} {a k : Nat} {v : Int}
theorem ExA.refl : ExA A M M := ⟨Nat.le_refl _, id, fun _ _ => rfl, fun _ _ _ => ⟨fun _ => rfl, fun _ => rfl⟩⟩
theorem ExA.trans (h1 : ExA A M M1) (h2 : ExA A M1 M2) : ExA A M M2 := ⟨Nat.le_trans h1.1 h2.1, fun q => h2.2.1 (h1.2.1 q), fun a ha => (h2.2.2.1 a (Nat.lt_of_lt_of_le ha h1.1)).trans (h1.2.2.1 a ha), fun a ha hA => ⟨fun i => ((h2.2.2.2 a (Nat.lt_of_lt_of_le ha h1.1) hA).1 i).trans ((h1.2.2.2 a ha hA).1 i), fun i => ((h2.2.2.2 a (Nat.lt_of_lt_of_le ha h1.1) hA).2 i).trans ((h1.2.2.2 a ha hA).2 i)⟩⟩
theorem ExA.mono (h : ExA A M M1) (hs : ∀ a, A a → B a) : ExA B M M1 := ⟨h.1, h.2.1, h.2.2.1, fun a ha hb => h.2.2.2 a ha (fun q => hb (hs a q))⟩
theorem ExC.exa (h : ExC A M M1) : ExA A M M1 := ⟨by rw [h.nN]; exact Nat.le_refl _, fun hu b hb => by rw [h.kd]; exact hu b (by rw [h.nN] at hb; exact hb), fun b _ => h.kd b, fun b _ hA => h.1 b hA⟩
theorem ExA_nwo {ci l t : Nat} : ExA A M (nwo M ci l t) := by
  refine ⟨Nat.le_succ _, fun hu b hb => ?_, fun b hb => ?_, fun b hb _ => ⟨fun i => ?_, fun i => ?_⟩⟩
  · rw [nN_nwo] at hb
    rw [kd_nwo, if_neg (by omega)]; exact hu b (by omega)
  · rw [kd_nwo, if_neg (by omega)]
  · exact if_neg (Nat.ne_of_lt hb)
  · exact if_neg (Nat.ne_of_lt hb)
theorem ExA_nw {l : Nat} : ExA A M (nw M k l) := by
  refine ⟨Nat.le_succ _, fun hu b hb => ?_, fun b hb => ?_, fun b hb _ => ⟨fun i => ?_, fun i => ?_⟩⟩
  · rw [nN_nw] at hb
    rw [kd_nw, if_neg (by omega)]; exact hu b (by omega)
  · rw [kd_nw, if_neg (by omega)]
  · exact if_neg (Nat.ne_of_lt hb)
  · exact if_neg (Nat.ne_of_lt hb)
/-- writing into a new cell -/
theorem ExA.newI (h : ExA A M M1) (hn : nN M ≤ a) : ExA A M (sI M1 a k v) := ⟨h.1, h.2.1, h.2.2.1, fun b hb hA => ⟨fun i => (st2_ne (fun q => by have := q.1; omega)).trans ((h.2.2.2 b hb hA).1 i), (h.2.2.2 b hb hA).2⟩⟩
theorem ExA.newR (h : ExA A M M1) (hn : nN M ≤ a) : ExA A M (sR M1 a k v) := ⟨h.1, h.2.1, h.2.2.1, fun b hb hA => ⟨(h.2.2.2 b hb hA).1, fun i => (st2_ne (fun q => by have := q.1; omega)).trans ((h.2.2.2 b hb hA).2 i)⟩⟩
theorem ExA.oldI (h : ExA A M M1) (hA : A a) : ExA A M (sI M1 a k v) := h.trans (ExC.exa (ExC_sI hA))
theorem ExA.oldR (h : ExA A M M1) (hA : A a) : ExA A M (sR M1 a k v) := h.trans (ExC.exa (ExC_sR hA))
theorem ExA.rI (h : ExA A M M1) (ha : a < nN M) (hA : ¬ A a) (i : Nat) : rI M1 a i = rI M a i := by
  show w32 _ = w32 _
  rw [(h.2.2.2 a ha hA).1 i]
theorem ExA.rR (h : ExA A M M1) (ha : a < nN M) (hA : ¬ A a) (i : Nat) : rR M1 a i = rR M a i := (h.2.2.2 a ha hA).2 i
theorem ExA.kd (h : ExA A M M1) (ha : a < nN M) : kd M1 a = kd M a := h.2.2.1 a ha
theorem ExA.kC (h : ExA A M M1) (ha : a + 1 < nN M) (hA : ¬ A (a + 1)) : kC M1 a = kC M a := by
  funext i
  exact h.rI ha hA i
theorem ExA.isK (h : ExA A M M1) (hu : UN M) (hA : ¬ A a) (hk : isK M a) : isK M1 a := by
  have hl := isK_lt hu hk
  exact ⟨by rw [h.kd (by omega)]; exact hk.1, by rw [h.rR (by omega) hA]; exact hk.2.1, by rw [h.kd hl]; exact hk.2.2⟩
end EXA
section CPOOL
variable {A : Nat → Prop} {M M1 : MM} {r m c kx i a len : Nat} {ps sp : List Nat} {ad : Int}
theorem isCt_lt (hu : UN M) (h : isCt M c) : c + 2 < nN M := isK_lt hu h.2.2.2
theorem isCt.exa (h : ExA A M M1) (hu : UN M) (h1 : ¬ A c) (h2 : ¬ A (c + 1)) (hc : isCt M c) : isCt M1 c := by
  have hl := isCt_lt hu hc
  exact ⟨by rw [h.kd (by omega)]; exact hc.1, by rw [h.rR (by omega) h1]; exact hc.2.1, by rw [h.kd (by omega)]; exact hc.2.2.1, h.isK hu h2 hc.2.2.2⟩
theorem ctc.exa (h : ExA A M M1) (hu : UN M) (hc : isCt M c) (h1 : ¬ A c) (h2 : ¬ A (c + 2)) : ctc M1 c = ctc M c := by
  have hl := isCt_lt hu hc
  unfold ctc
  rw [h.kC (by omega) h2, h.rI (by omega) h1]
theorem isRw_lt (hu : UN M) (h : isRw M r m) : r + 1 < nN M := hu.lt (by rw [h.2.2]; show (486 : Nat) ≠ 63; decide)
theorem RowC.exa (h : ExA A M M1) (hu : UN M) (h1 : ¬ A r) (h2 : ¬ A (r + 1)) (hc : ∀ c, c ∈ ps → ¬ A c ∧ ¬ A (c + 1)) (hr : RowC M r m ps) : RowC M1 r m ps := by
  obtain ⟨⟨a1, a2, a3⟩, b, c1, d, e, f⟩ := id hr
  have hl := isRw_lt hu hr.1
  exact ⟨⟨by rw [h.kd (by omega)]; exact a1, by rw [h.rR (by omega) h1]; exact a2, by rw [h.kd hl]; exact a3⟩, by rw [h.rI (by omega) h1]; exact b, c1, d, fun i hi => by rw [h.rR hl h2]; exact e i hi, fun c hcs => (f c hcs).exa h hu (hc c hcs).1 (hc c hcs).2⟩
/-- the pool (28): its array, those that are free -/
def PoolC (M : MM) (a len : Nat) (sp : List Nat) : Prop := (kd M 28).1 = 9 ∧ rR M 28 0 = (a : Int) ∧ (kd M a = (166, len) ∨ kd M a = (470, len)) ∧ rI M 28 1 = (sp.length : Int) ∧ sp.length ≤ len ∧ (1 ≤ len ∧ len ≤ 100000) ∧ (∀ i, i < sp.length → rR M a i = ((sp.getD i 0 : Nat) : Int)) ∧ ∀ c, c ∈ sp → isCt M c
theorem pool_k (h : PoolC M a len sp) : ∃ k, kd M a = (k, len) ∧ (64 ≤ k ∧ k % 16 = 6) := by
  rcases h.2.2.1 with q | q
  · exact ⟨166, q, by decide⟩
  · exact ⟨470, q, by decide⟩
theorem pool_ne (h : PoolC M a len sp) (hc : isCt M c) : c ≠ 28 ∧ c ≠ a ∧ c + 1 ≠ 28 ∧ c + 1 ≠ a ∧ c + 2 ≠ 28 ∧ c + 2 ≠ a := by
  have k2 : kd M (c + 2) = (64, 5) := hc.2.2.2.2.2
  obtain ⟨k, e, e2⟩ := pool_k h
  refine ⟨fun q => ?_, fun q => ?_, fun q => ?_, fun q => ?_, fun q => ?_, fun q => ?_⟩
  · have := h.1; rw [← q, hc.1] at this; cases this
  · rw [← q, hc.1] at e; cases e; omega
  · have := h.1; rw [← q, hc.2.2.1] at this; cases this
  · rw [← q, hc.2.2.1] at e; cases e; omega
  · have := h.1; rw [← q, k2] at this; cases this
  · rw [← q, k2] at e; rcases h.2.2.1 with z | z <;> (rw [← q, k2] at z; cases z)
theorem pool_a28 (h : PoolC M a len sp) : a ≠ 28 := fun q => by
  have h1 := h.1
  rcases h.2.2.1 with z | z <;> (rw [← q, z] at h1; cases h1)
/-- a contact gets its key and address -/
theorem c_take38 (hc : isCt M c) (hk : isK M kx) (had : w32 ad = ad) : ∃ M', j_X9_take_38 (kx : Int) ad (c : Int) M = some ((c : Int), M') ∧ ctc M' c = (ky (kC M kx), ad) ∧ isCt M' c ∧ ExC (fun q => q = c ∨ q = c + 2) M M' := by
  obtain ⟨M1, a1, a2, a3⟩ := e_X3_set hc.2.2.2 hk
  have f1 : ExC (fun q => q = c ∨ q = c + 2) M M1 := (ExC_ex a3).mono (fun q hq => Or.inr hq)
  refine ⟨sI M1 c 1 ad, ?_, ?_, ⟨by rw [kd_sI, f1.kd]; exact hc.1, by rw [rR_sI, a3.rR]; exact hc.2.1, by rw [kd_sI, f1.kd]; exact hc.2.2.1, by rw [kd_sI, f1.kd]; exact hc.2.2.2.1, by rw [rR_sI, a3.rR]; exact hc.2.2.2.2.1, by rw [kd_sI, f1.kd]; exact hc.2.2.2.2.2⟩, f1.trans (ExC_sI (Or.inl rfl))⟩
  · unfold j_X9_take_38
    rw [gfr_e (by rw [hc.1]), hc.2.1, Option.bind_some, ck_e hc.2.2.2.1, a1, Option.bind_some, pfi_e (by rw [f1.kd, hc.1]), Option.bind_some]
  · unfold ctc
    rw [rI_eq rfl, had]
    congr 1
    rw [ky_eq, ← alleq_kq]
    intro i hi
    rw [← a2 i hi]
    exact rI_ne (by omega)
theorem pool_kx (h : PoolC M a len sp) (hk : isK M kx) : kx ≠ 28 ∧ kx ≠ a ∧ kx + 1 ≠ 28 ∧ kx + 1 ≠ a := by
  obtain ⟨k, e, e2⟩ := pool_k h
  refine ⟨fun q => ?_, fun q => ?_, fun q => ?_, fun q => ?_⟩
  · have := h.1; rw [← q, hk.1] at this; cases this
  · have := hk.1; rw [q, e] at this; dsimp only at this; omega
  · have := h.1; rw [← q, hk.2.2] at this; cases this
  · have := hk.2.2; rw [q] at this; rcases h.2.2.1 with z | z <;> (rw [z] at this; cases this)
theorem PoolC.exa (h : ExA A M M1) (hu : UN M) (h1 : ¬ A 28) (h2 : ¬ A a) (hc : ∀ c, c ∈ sp → ¬ A c ∧ ¬ A (c + 1)) (hp : PoolC M a len sp) : PoolC M1 a len sp := by
  obtain ⟨k, e, e2⟩ := pool_k hp
  have l1 : 28 < nN M := hu.lt (by rw [hp.1]; decide)
  have l2 : a < nN M := hu.lt (by rw [e]; show k ≠ 63; omega)
  obtain ⟨p1, p2, p3, p4, p5, p6, p7, p8⟩ := hp
  exact ⟨by rw [h.kd l1]; exact p1, by rw [h.rR l1 h1]; exact p2, by rw [h.kd l2]; exact p3, by rw [h.rI l1 h1]; exact p4, p5, p6, fun i hi => by rw [h.rR l2 h2]; exact p7 i hi, fun c hcs => (p8 c hcs).exa h hu (hc c hcs).1 (hc c hcs).2⟩
/-- a new contact -/
theorem c_newCt (hu : UN M) : ∃ M4, f_X23_init ((nN M : Nat) : Int) (nwo M 23 2 39) = some M4 ∧ isCt M4 (nN M) ∧ nN M4 = nN M + 3 ∧ nU M4 = nU M + 8 ∧ ExA (fun _ => False) M M4 := by
  generalize hn : nN M = n
  obtain ⟨M4, hM4⟩ : ∃ M4, M4 = sR (sR (nw (nwo (nwo M 23 2 39) 3 1 38) 64 5) (n + 1) 0 ((n + 2 : Nat) : Int)) n 0 ((n + 1 : Nat) : Int) := ⟨_, rfl⟩
  have kd4 : ∀ z, kd M4 z = if z = n + 2 then (64, 5) else if z = n + 1 then (3, 38) else if z = n then (23, 39) else kd M z := fun z => by
    rw [hM4, kd_sR, kd_sR, kd_nw, kd_nwo, kd_nwo, nN_nwo, nN_nwo, hn]
  have r0 : rR M4 n 0 = ((n + 1 : Nat) : Int) := by rw [hM4, rR_eq rfl]
  have r1 : rR M4 (n + 1) 0 = ((n + 2 : Nat) : Int) := by rw [hM4, rR_ne (by omega), rR_eq rfl]
  refine ⟨M4, ?_, ⟨by rw [kd4, if_neg (by omega), if_neg (by omega), if_pos rfl], r0, by rw [kd4, if_neg (by omega), if_pos rfl], by rw [kd4, if_neg (by omega), if_pos rfl], r1, by rw [kd4, if_pos rfl]⟩, by rw [hM4]; show nN M + 1 + 1 + 1 = _; rw [hn], by rw [hM4]; rfl, ?_⟩
  · unfold f_X23_init f_X3_init
    rw [nn_e, nob_e, Option.bind_some]
    dsimp only
    have n1 : nN (nwo M 23 2 39) = n + 1 := by rw [nN_nwo, hn]
    have n2 : nN (nwo (nwo M 23 2 39) 3 1 38) = n + 2 := by rw [nN_nwo, n1]
    rw [n1, nn_e, nn_e, nar_e (j := 5) (by decide) (by decide), Option.bind_some]
    dsimp only
    rw [n2, pfr_e (by rw [kd_nw, if_neg (by rw [n2]; omega), kd_nwo, if_pos n1.symm]), Option.bind_some, Option.bind_some, pfr_e (by rw [kd_sR, kd_nw, if_neg (by rw [n2]; omega), kd_nwo, if_neg (by rw [n1]; omega), kd_nwo, if_pos hn.symm]), Option.bind_some, hM4]
  · rw [hM4]
    have b1 : ExA (fun _ => False) M (nw (nwo (nwo M 23 2 39) 3 1 38) 64 5) := (ExA_nwo.trans ExA_nwo).trans ExA_nw
    exact (b1.newR (by omega)).newR (by omega)
theorem c_take (h : PoolC M a len sp) (hu : UN M) (hk : isK M kx) (had : w32 ad = ad) (hnd : sp.Nodup) : ∃ (c : Nat) (M' : MM) (sp' : List Nat), f_X9_take 28 (kx : Int) ad M = some ((c : Int), M') ∧ isCt M' c ∧ ctc M' c = (ky (kC M kx), ad) ∧ PoolC M' a len sp' ∧ ((sp = sp' ++ [c] ∧ nN M' = nN M ∧ nU M' = nU M) ∨ (sp = [] ∧ sp' = [] ∧ c = nN M ∧ nN M' = nN M + 3 ∧ nU M' = nU M + 8)) ∧ ExA (fun q => q = 28 ∨ q = c ∨ q = c + 2) M M' := by
  obtain ⟨h1, h2, h3, h4, h5, h6, h7, h8⟩ := id h
  obtain ⟨k, e, e2⟩ := pool_k h
  have na := pool_a28 h
  have nk := pool_kx h hk
  have e28 : (28 : Int) = ((28 : Nat) : Int) := rfl
  have hlk := isK_lt hu hk
  unfold f_X9_take
  rw [e28, gfi_e h1, Option.bind_some, Option.bind_some, h4, w32_nn (by omega)]
  by_cases c0 : sp = []
  · subst c0
    rw [if_neg (by simp), nob_e, Option.bind_some]
    dsimp only
    rw [nn_e]
    obtain ⟨M4, run, ct4, n4, u4, f4⟩ := c_newCt hu
    have hl28 : 28 < nN M := hu.lt (by rw [h1]; decide)
    have hla : a < nN M := hu.lt (by rw [e]; show k ≠ 63; omega)
    have hk4 : isK M4 kx := f4.isK hu (fun q => q) hk
    obtain ⟨M5, a1, a2, a4, a3⟩ := c_take38 (ad := ad) ct4 hk4 had
    have f5 : ExA (fun q => q = nN M ∨ q = nN M + 2) M M5 := (f4.mono (fun q hq => hq.elim)).trans (ExC.exa a3)
    have hkk : kC M4 kx = kC M kx := f4.kC (by omega) (fun q => q)
    refine ⟨nN M, M5, [], ?_, a4, by rw [a2, hkk], PoolC.exa f5 hu (by omega) (by omega) (fun c hc => by simp at hc) h, Or.inr ⟨rfl, rfl, rfl, by rw [a3.nN]; exact n4, by rw [a3.nU]; exact u4⟩, f5.mono (fun q hq => Or.inr hq)⟩
    rw [run, Option.bind_some, a1]
  · have hpos : 0 < sp.length := List.length_pos_iff.mpr c0
    obtain ⟨n, hn⟩ : ∃ n, n + 1 = sp.length := ⟨sp.length - 1, by omega⟩
    obtain ⟨c, hc⟩ := take_last hn.symm
    have hcn : sp.getD n 0 = c := by
      rw [hc, getD_snoc (by rw [List.length_take]; omega), if_pos (by rw [List.length_take]; omega)]
    have hcm : c ∈ sp := by rw [hc]; simp
    have hct := h8 c hcm
    have pn := pool_ne h hct
    have hct1 : isCt (sI M 28 1 (n : Int)) c := hct
    have hk1 : isK (sI M 28 1 (n : Int)) kx := hk
    obtain ⟨M5, a1, a2, a4, a3⟩ := c_take38 (ad := ad) hct1 hk1 had
    have hkk : kC (sI M 28 1 (n : Int)) kx = kC M kx := by funext i; exact rI_ne (by omega)
    have f5 : ExC (fun q => q = 28 ∨ q = c ∨ q = c + 2) M M5 := (ExC_sI (Or.inl rfl)).trans (a3.mono (fun q hq => Or.inr hq))
    have hlt : (sp.take n).length = n := by rw [List.length_take]; omega
    have r28 : rI M5 28 1 = (n : Int) := by rw [a3.rI (by omega), rI_eq rfl, w32_nn (by omega)]
    have hnd2 : c ∉ sp.take n := by
      rw [hc, List.nodup_append] at hnd
      intro q
      have hq2 : c ∈ (sp.take n ++ [c]).take n ∨ True := Or.inr trivial
      exact hnd.2.2 c q c (by simp) rfl
    refine ⟨c, M5, sp.take n, ?_, a4, by rw [a2, hkk], ⟨by rw [f5.kd]; exact h1, by rw [a3.rR (by omega), rR_sI]; exact h2, by rw [f5.kd]; exact h3, by rw [hlt]; exact r28, by omega, h6, fun i hi => ?_, fun c' hc' => ?_⟩, Or.inl ⟨hc, f5.nN, f5.nU⟩, ExC.exa f5⟩
    · rw [if_pos (by omega), pfi_e h1, Option.bind_some, show (sp.length : Int) - 1 = (n : Int) by omega, gfr_e (by rw [kd_sI]; exact h1), Option.bind_some, gfi_e (by rw [kd_sI]; exact h1), Option.bind_some, rR_sI, h2, rI_eq rfl, w32_nn (by omega), lar_n (show kd (sI M 28 1 (n : Int)) a = (k, len) from e) e2 (by omega) (by omega), Option.bind_some, rR_sI, h7 n (by omega), hcn, a1]
    · rw [hlt] at hi
      rw [f5.rR (by omega), h7 i (by omega)]
      congr 1
      rw [List.getD_eq_getElem?_getD, List.getD_eq_getElem?_getD, List.getElem?_take_of_lt hi]
    · have hcc := h8 c' (List.mem_of_mem_take hc')
      have p2 := pool_ne h hcc
      have hne : c' ≠ c := fun q => hnd2 (q ▸ hc')
      have kc1 := hct.1
      have kc2 : kd M (c + 2) = (64, 5) := hct.2.2.2.2.2
      refine hcc.exc f5 (fun q => ?_) (fun q => ?_)
      · rcases q with q | q | q
        · omega
        · exact hne q
        · have := hcc.1; rw [q, kc2] at this; cases this
      · rcases q with q | q | q
        · omega
        · have := hcc.2.2.1; rw [q, kc1] at this; cases this
        · have := hcc.2.2.1; rw [q, kc2] at this; cases this
end CPOOL
