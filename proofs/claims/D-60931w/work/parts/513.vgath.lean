/-! requests that have run out, in the reference: their slots by their numbers -/
def ovQ (tm : Int) (R : List Rq) : List Rq := R.filter (fun y => decide (qDdl y ≤ tm))
section VGATH
variable {V W : VV} {p i nx : Nat} {R : List Rq} {tm : Int}
theorem v_gather (h : RqV V p R nx) (hp : p < 32) (ht : vI V 156 11 = tm) :
    ∃ V' SL, f_X16_runOut (p : Int) V = l_X16_runOut_124 (p : Int) ((SL.length : Nat) : Int) 0 V' ∧ ExV (fun q => q = 274) V V' ∧ ArrN V' 274 SL ∧ SL.length ≤ 40 ∧ (∀ r, r ∈ SL → r ∈ slQ V p) ∧ SL.map (gQ V) = ovQ tm R := by
  let m : Nat → Nat := fun r => (vI V 198 r).toNat
  let o : Nat → Bool := fun r => decide (vI V 197 r ≠ 0) && decide (vI V 202 r ≤ tm)
  let sl : Nat → List Nat := fun j => (rws (fun i => 40 * p + i) j).filter o
  have slm : ∀ j r, r ∈ sl j → ∃ i, i < j ∧ r = 40 * p + i := by
    intro j r hr
    obtain ⟨i, hi, e⟩ := rws_mem.mp (List.mem_filter.mp hr).1
    exact ⟨i, hi, e.symm⟩
  have slk : ∀ j r, r ∈ sl j → vI V 197 r ≠ 0 ∧ vI V 202 r ≤ tm := fun j r hr => by
    have := (List.mem_filter.mp hr).2
    simpa [o] using this
  have slq : ∀ j r, j ≤ 40 → r ∈ sl j → r ∈ slQ V p := by
    intro j r hj hr
    obtain ⟨i, hi, e⟩ := slm j r hr
    exact List.mem_filter.mpr ⟨rws_mem.mpr ⟨i, by omega, e.symm⟩, decide_eq_true (slk j r hr).1⟩
  have pos : ∀ r, r ∈ slQ V p → 0 < vI V 198 r ∧ vI V 198 r < (nx : Int) := fun r hr => by
    have := h.2.2.2.1 _ (rq_slot h hr)
    exact ⟨this.1, this.2.1⟩
  have slN : ∀ j, j ≤ 40 → ((sl j).map m).Nodup := by
    intro j hj
    have hs : (rws (fun i => 40 * p + i) j).Pairwise (fun a b => a < b) := by
      rw [List.pairwise_iff_getElem]
      intro a b ha hb hab
      rw [rws_get, rws_get]; omega
    have hs2 : (sl j).Pairwise (fun a b => a < b) := hs.filter _
    rw [List.Nodup, List.pairwise_map]
    refine List.Pairwise.imp_of_mem (fun {a b} ha hb hab z => ?_) hs2
    have k1 := slq j a hj ha
    have k2 := slq j b hj hb
    have z : (vI V 198 a).toNat = (vI V 198 b).toNat := z
    have p1 := pos a k1
    have p2 := pos b k2
    have := rq_inj h k1 k2 (show vI V 198 a = vI V 198 b by omega)
    omega
  let LL : Nat → List Nat := fun j => srt m (sl j)
  have LLs0 : ∀ j r, r ∈ LL j → r ∈ sl j := fun j r hr => (srt_perm m (sl j)).mem_iff.mp hr
  have LLm : ∀ j r, r ∈ LL j → ∃ i, i < j ∧ r = 40 * p + i := fun j r hr => slm j r (LLs0 j r hr)
  have LLl : ∀ j, (LL j).length ≤ j := fun j => by
    rw [(srt_perm m (sl j)).length_eq]
    have := List.length_filter_le o (rws (fun i => 40 * p + i) j)
    rw [rws_len] at this
    exact this
  have LLs : ∀ j, j ≤ 40 → SrtM m (LL j) := fun j hj => srt_srt (slN j hj)
  have LLn : ∀ j, o (40 * p + j) = false → LL (j + 1) = LL j := by
    intro j hj
    show srt m (sl (j + 1)) = _
    have : sl (j + 1) = sl j := by
      show (rws _ _).filter o = _
      rw [rws_filter_succ, if_neg (by rw [hj]; decide), List.append_nil]
    rw [this]
  have LLy : ∀ j, o (40 * p + j) = true → LL (j + 1) = insM m (40 * p + j) (LL j) := by
    intro j hj
    show srt m (sl (j + 1)) = insM m _ (srt m (sl j))
    have : sl (j + 1) = sl j ++ [40 * p + j] := by
      show (rws _ _).filter o = _
      rw [rws_filter_succ, if_pos hj]
    rw [this]
    unfold srt
    rw [List.foldl_append]
    rfl
  have stp : ∀ j (s : Int × Int × VV), j < 40 → (s.2.1 = ((40 * p + j : Nat) : Int) ∧ ExV (fun q => q = 274) V s.2.2 ∧ s.1 = (((LL j).length : Nat) : Int) ∧ ArrN s.2.2 274 (LL j)) → ∃ s', b_X16_runOut_7 (p : Int) s.1 s.2.1 s.2.2 = some (.inl s') ∧ (s'.2.1 = ((40 * p + (j + 1) : Nat) : Int) ∧ ExV (fun q => q = 274) V s'.2.2 ∧ s'.1 = (((LL (j + 1)).length : Nat) : Int) ∧ ArrN s'.2.2 274 (LL (j + 1))) := by
    rintro j ⟨c, z, U⟩ hj ⟨rfl, f1, rfl, f3⟩
    dsimp only at f1 f3 ⊢
    have hkl := LLl j
    obtain ⟨X, hX⟩ : ∃ X, X = 40 * p + j := ⟨_, rfl⟩
    unfold b_X16_runOut_7
    rw [c40m, cadd40, w32_nn (by omega), w32_nn (by omega), if_pos (by omega), ← hX, l2_n (by omega) (by decide), Option.bind_some, w32_vI, f1.vI (by decide)]
    by_cases c1 : vI V 197 X = 0
    · rw [if_pos c1]
      have ho : o (40 * p + j) = false := by rw [← hX]; show (decide _ && _) = false; rw [decide_eq_false (fun q => q c1)]; rfl
      exact ⟨(_, ((X : Nat) : Int) + 1, U), rfl, by dsimp only; omega, f1, by rw [LLn j ho], by rw [LLn j ho]; exact f3⟩
    rw [if_neg c1, l2_n (by omega) (by decide), Option.bind_some, w32_vI, f1.vI (by decide), show w32 (w32 (U 156 11)) = tm by rw [w32_w32]; show vI U 156 11 = tm; rw [f1.vI (by decide)]; exact ht]
    by_cases c2 : tm < vI V 202 X
    · rw [if_pos c2]
      have ho : o (40 * p + j) = false := by rw [← hX]; show (_ && decide _) = false; rw [decide_eq_false (show ¬ vI V 202 X ≤ tm by omega), Bool.and_false]
      exact ⟨(_, ((X : Nat) : Int) + 1, U), rfl, by dsimp only; omega, f1, by rw [LLn j ho], by rw [LLn j ho]; exact f3⟩
    rw [if_neg c2]
    have ho : o X = true := by show (decide _ && decide _) = true; rw [decide_eq_true c1, decide_eq_true (show vI V 202 X ≤ tm by omega)]; rfl
    have hXs : X ∈ slQ V p := List.mem_filter.mpr ⟨rws_mem.mpr ⟨j, by omega, hX.symm⟩, decide_eq_true c1⟩
    have bg : ∀ i, i < (LL j).length → ∃ i2, i2 < j ∧ (LL j).getD i 0 = 40 * p + i2 := fun i hi => LLm j _ (getD_mem hi)
    obtain ⟨W, w1, w2, w3⟩ := ins_loop (b := fun s : Int × VV => b_X16_runOut_46 (p : Int) (((LL j).length : Nat) : Int) ((X : Nat) : Int) s.1 s.2) (κ := fun z W => j_X16_runOut_105 (p : Int) (((LL j).length : Nat) : Int) ((X : Nat) : Int) z W) (lt := fun y => decide (m X < m y)) f3 (fun i hi => by obtain ⟨i2, h2, e⟩ := bg i hi; omega) (by
      intro i W hi hW hlo
      dsimp only
      have fW := f1.trans hW
      unfold b_X16_runOut_46
      by_cases c0 : 0 < i
      · obtain ⟨i2, hi2, ei⟩ := bg (i - 1) (by omega)
        have e1 : vI W 274 (i - 1) = (((LL j).getD (i - 1) 0 : Nat) : Int) := by rw [hlo _ (by omega)]; exact f3 _ (by omega)
        have w12 : ∀ z, vI W 198 z = vI V 198 z := fun z => fW.vI (a := 198) (by decide) z
        have p1 := pos X hXs
        have p2 := pos _ (slq j _ (by omega) (LLs0 j _ (getD_mem (L := LL j) (j := i - 1) (d := 0) (by omega))))
        unfold j_X16_runOut_78
        rw [w32_nn (by omega), if_pos (by omega), l2_n (by omega) (by decide), Option.bind_some, if_pos (by omega)]
        simp (disch := omega) only [csub1, cdec1, l2_n, s2_n, Option.bind_some, e1]
        rw [w32_vI, w32_vI, w12, w12]
        by_cases c1 : m X < m ((LL j).getD (i - 1) 0)
        · have c1' : (vI V 198 X).toNat < (vI V 198 ((LL j).getD (i - 1) 0)).toNat := c1
          rw [if_pos (by omega), if_pos ⟨c0, by simpa using c1⟩]
        · have c1' : ¬ (vI V 198 X).toNat < (vI V 198 ((LL j).getD (i - 1) 0)).toNat := c1
          rw [if_neg (by omega), if_neg (fun q => c1 (by simpa using q.2))]
      · rw [w32_nn (by omega), if_neg (by omega), if_neg (fun q => c0 q.1)]) FU (by unfold FU; omega)
    have hbk := bk_le (fun y => decide (m X < m y)) 0 (LL j) (LL j).length
    have a1 := w3 X (by omega)
    rw [bk_ins (LLs j (by omega))] at a1
    generalize hq : bk (fun y => decide (m X < m y)) 0 (LL j) (LL j).length = P at w1 a1 hbk
    have hL1 : LL (j + 1) = insM m X (LL j) := by rw [LLy j (by rw [← hX]; exact ho), hX]
    have lenI : (LL (j + 1)).length = (LL j).length + 1 := by rw [hL1]; exact insM_len
    refine ⟨((((LL (j + 1)).length : Nat) : Int), ((X : Nat) : Int) + 1, st2 W 274 P (X : Int)), ?_, by dsimp only; omega, (f1.trans w2).trans (ExV.st rfl), rfl, ?_⟩
    · unfold l_X16_runOut_46
      refine w1.trans ?_
      unfold j_X16_runOut_105 j_X16_runOut_116
      rw [s2_n (by omega) (by decide), Option.bind_some, cadd1, lenI]
      rfl
    · dsimp only
      rw [hL1]
      exact a1
  obtain ⟨⟨c, z, V'⟩, n2, hn2, ⟨rfl, g1, rfl, g3⟩, q2⟩ := lp_inv (b := fun s : Int × Int × VV => b_X16_runOut_7 (p : Int) s.1 s.2.1 s.2.2) (fun j s => s.2.1 = ((40 * p + j : Nat) : Int) ∧ ExV (fun q => q = 274) V s.2.2 ∧ s.1 = (((LL j).length : Nat) : Int) ∧ ArrN s.2.2 274 (LL j)) 40 stp FU 0 (0, ((40 * p : Nat) : Int), V) (by omega) (by unfold FU; omega) ⟨rfl, .refl, by simp [LL, sl, rws, srt], by simp [LL, sl, rws, srt, ArrN]⟩
  dsimp only at g1 g3
  refine ⟨V', LL 40, ?_, g1, g3, LLl 40, fun r hr => slq 40 r (Nat.le_refl _) (LLs0 40 r hr), ?_⟩
  · unfold f_X16_runOut l_X16_runOut_7
    rw [c40m]
    refine q2.trans ?_
    refine lpN_end (b := fun s : Int × Int × VV => b_X16_runOut_7 (p : Int) s.1 s.2.1 s.2.2) hn2 ?_
    dsimp only
    unfold b_X16_runOut_7
    rw [c40m, cadd40, if_neg (by omega)]
    rfl
  · have e2 : (sl 40).map (gQ V) = ovQ tm ((slQ V p).map (gQ V)) := by
      show ((rws _ _).filter o).map (gQ V) = (((rws _ _).filter _).map (gQ V)).filter _
      rw [List.filter_map, List.filter_filter]
      congr 1
      refine List.filter_congr (fun r hr => ?_)
      show (_ && _) = (_ && _)
      rw [Bool.and_comm]
      rfl
    have pm : ((sl 40).map (gQ V)).Perm (ovQ tm R) := by
      rw [e2]
      exact h.2.1.filter _
    have e1 : (LL 40).map (gQ V) = srt (fun y : Rq => (qNum y).toNat) ((sl 40).map (gQ V)) := by
      rw [← srt_map (gQ V) (fun y : Rq => (qNum y).toNat)]
      rfl
    rw [e1]
    refine srt_of ?_ pm.symm
    have hs : (ovQ tm R).Pairwise (fun a b => qNum a < qNum b) := h.2.2.1.filter _
    refine List.Pairwise.imp_of_mem (fun {a b} ha hb hab => ?_) hs
    have := (h.2.2.2.1 a (List.mem_filter.mp ha).1).1
    show (qNum a).toNat < (qNum b).toNat
    omega
end VGATH
