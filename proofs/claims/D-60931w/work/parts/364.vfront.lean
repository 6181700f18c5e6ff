/-! the front of a lookup -/
def frontE (k : Nat) (E : List Ent) : List Ent := (E.filter (fun x => decide (eSt x ≠ 3))).take k
section VFRONT
variable {V W : VV} {t i : Nat} {tgt : Ky} {E : List Ent} {k : Nat}
theorem v_makeFront (h : EnV V t tgt E) (ht : t < 44) (hk0 : vI V 156 0 = (k : Int)) (hk : 1 ≤ k ∧ k ≤ 20) :
    ∃ V' Ls, f_X16_makeFront (t : Int) V = some V' ∧ Fb 240 106 V V' ∧ vI V' 156 106 = ((Ls.length : Nat) : Int) ∧ ArrN V' 240 Ls ∧ (∀ r, r ∈ Ls → ∃ i, i < E.length ∧ r = 65 * t + i) ∧ Ls.map (gE V) = frontE k E := by
  have h234 := h.1
  have htg := h.2.1
  have hok := h.2.2.1
  have hl := hok.1
  let m : Nat → Nat := fun r => dE tgt (gE V r)
  let o : Nat → Bool := fun r => decide (vI V 237 r ≠ 3)
  let sl : Nat → List Nat := fun j => (rws (fun i => 65 * t + i) j).filter o
  have hap : ∀ i j, i < E.length → j < E.length → m (65 * t + i) = m (65 * t + j) → i = j := by
    intro i j hi hj hij
    have hn : ((rws (fun i => gE V (65 * t + i)) E.length).map (dE tgt)).Nodup := by
      rw [(h.2.2.2.map (dE tgt)).nodup_iff, List.Nodup, List.pairwise_map]
      exact hok.2.1.imp (fun q => Nat.ne_of_lt q)
    have e1 : ((rws (fun i => gE V (65 * t + i)) E.length).map (dE tgt)) = rws (fun i => m (65 * t + i)) E.length := by simp [rws, m]
    rw [e1] at hn
    have q := List.pairwise_iff_getElem.mp hn
    rcases Nat.lt_trichotomy i j with c | c | c
    · exact absurd (by rw [rws_get, rws_get]; exact hij) (q i j (by rw [rws_len]; exact hi) (by rw [rws_len]; exact hj) c)
    · exact c
    · exact absurd (by rw [rws_get, rws_get]; exact hij.symm) (q j i (by rw [rws_len]; exact hj) (by rw [rws_len]; exact hi) c)
  have slm : ∀ j r, r ∈ sl j → ∃ i, i < j ∧ r = 65 * t + i := by
    intro j r hr
    obtain ⟨i, hi, e⟩ := rws_mem.mp (List.mem_filter.mp hr).1
    exact ⟨i, hi, e.symm⟩
  have slN : ∀ j, j ≤ E.length → ((sl j).map m).Nodup := by
    intro j hj
    have hs : (rws (fun i => 65 * t + i) j).Pairwise (fun a b => a < b) := by
      rw [List.pairwise_iff_getElem]
      intro a b ha hb hab
      rw [rws_get, rws_get]; omega
    have hs2 : (sl j).Pairwise (fun a b => a < b) := hs.filter _
    rw [List.Nodup, List.pairwise_map]
    refine List.Pairwise.imp_of_mem (fun {a b} ha hb hab z => ?_) hs2
    obtain ⟨i1, hi1, rfl⟩ := slm j a ha
    obtain ⟨i2, hi2, rfl⟩ := slm j b hb
    have := hap i1 i2 (by omega) (by omega) z
    omega
  let LL : Nat → List Nat := fun j => (srt m (sl j)).take k
  have LLm : ∀ j r, r ∈ LL j → ∃ i, i < j ∧ r = 65 * t + i := fun j r hr => slm j r ((srt_perm m (sl j)).mem_iff.mp (List.mem_of_mem_take hr))
  have LLl : ∀ j, (LL j).length ≤ k := fun j => by rw [List.length_take]; omega
  have LLs : ∀ j, j ≤ E.length → SrtM m (LL j) := fun j hj => (srt_srt (slN j hj)).sublist (List.take_sublist _ _)
  have LLn : ∀ j, o (65 * t + j) = false → LL (j + 1) = LL j := by
    intro j hj
    show (srt m (sl (j + 1))).take k = _
    have : sl (j + 1) = sl j := by
      show (rws _ _).filter o = _
      rw [rws_filter_succ, if_neg (by rw [hj]; decide), List.append_nil]
    rw [this]
  have LLy : ∀ j, o (65 * t + j) = true → LL (j + 1) = (insM m (65 * t + j) (LL j)).take k := by
    intro j hj
    show (srt m (sl (j + 1))).take k = (insM m _ ((srt m (sl j)).take k)).take k
    have : sl (j + 1) = sl j ++ [65 * t + j] := by
      show (rws _ _).filter o = _
      rw [rws_filter_succ, if_pos hj]
    rw [this, insM_take]
    unfold srt
    rw [List.foldl_append]
    rfl
  have stp : ∀ j (s : Int × VV), j < E.length → (s.1 = ((65 * t + j : Nat) : Int) ∧ Fb 240 106 V s.2 ∧ vI s.2 156 106 = (((LL j).length : Nat) : Int) ∧ ArrN s.2 240 (LL j)) → ∃ s', b_X16_makeFront_10 (t : Int) s.1 s.2 = some (.inl s') ∧ (s'.1 = ((65 * t + (j + 1) : Nat) : Int) ∧ Fb 240 106 V s'.2 ∧ vI s'.2 156 106 = (((LL (j + 1)).length : Nat) : Int) ∧ ArrN s'.2 240 (LL (j + 1))) := by
    rintro j ⟨z, U⟩ hj ⟨rfl, f1, f2, f3⟩
    dsimp only at f1 f2 f3 ⊢
    have u234 : vI U 234 t = (E.length : Int) := by rw [f1.vI (by decide) (by omega)]; exact h234
    have u0 : vI U 156 0 = (k : Int) := by rw [f1.vI (by decide) (by omega)]; exact hk0
    have u237 : vI U 237 (65 * t + j) = vI V 237 (65 * t + j) := f1.vI (by decide) (by omega)
    have hkl := LLl j
    obtain ⟨X, hX⟩ : ∃ X, X = 65 * t + j := ⟨_, rfl⟩
    unfold b_X16_makeFront_10
    rw [l2_n (by omega) (by decide), Option.bind_some, u234, c65m, cadd, w32_nn (by omega), w32_nn (by omega), if_pos (by omega), l2_n (by omega) (by decide), Option.bind_some, w32_vI, u237, show w32 3 = 3 by decide, ← hX]
    by_cases c1 : vI V 237 X = 3
    · rw [if_pos c1]
      have ho : o (65 * t + j) = false := by rw [← hX]; simpa [o] using c1
      exact ⟨(((X : Nat) : Int) + 1, U), rfl, by dsimp only; omega, f1, by rw [LLn j ho]; exact f2, by rw [LLn j ho]; exact f3⟩
    · rw [if_neg c1]
      have ho : o X = true := by simpa [o] using c1
      have bg : ∀ i, i < (LL j).length → ∃ i2, i2 < j ∧ (LL j).getD i 0 = 65 * t + i2 := fun i hi => LLm j _ (getD_mem hi)
      obtain ⟨W, w1, w2, w3⟩ := ins_loop (b := fun s : Int × VV => b_X16_makeFront_43 (t : Int) ((X : Nat) : Int) s.1 s.2) (κ := fun z W => j_X16_makeFront_109 (t : Int) ((X : Nat) : Int) z W) (lt := fun y => decide (m X < m y)) f3 (fun i hi => by obtain ⟨i2, h2, e⟩ := bg i hi; omega) (by
        intro i W hi hW hlo
        dsimp only
        have fW := f1.trans (Fb_ex (c := 106) hW)
        unfold b_X16_makeFront_43
        by_cases c0 : 0 < i
        · obtain ⟨i2, hi2, ei⟩ := bg (i - 1) (by omega)
          have e1 : vI W 240 (i - 1) = (((LL j).getD (i - 1) 0 : Nat) : Int) := by rw [hlo _ (by omega)]; exact f3 _ (by omega)
          have nr := v_nearer (V := W) (p := 5 * X) (p' := 5 * ((LL j).getD (i - 1) 0)) (p'' := 5 * t) m235 (by omega) (by decide) m235 (by omega) (by decide) m232 (by omega) (by decide)
          rw [fW.gk (by decide) (by decide), fW.gk (by decide) (by decide), fW.gk (by decide) (by decide), htg] at nr
          have nr : f_X16_nearer ((235 : Nat) : Int) ((5 * X : Nat) : Int) ((235 : Nat) : Int) ((5 * (LL j).getD (i - 1) 0 : Nat) : Int) ((232 : Nat) : Int) ((5 * t : Nat) : Int) W = some (b2i (decide (m X < m ((LL j).getD (i - 1) 0)))) := nr
          unfold j_X16_makeFront_74
          rw [w32_nn (by omega), if_pos (by omega), if_pos (by omega)]
          simp (disch := omega) only [csub1, cdec1, l2_n, s2_n, Option.bind_some, e1, c5m]
          rw [show f_X16_nearer 235 ((5 * X : Nat) : Int) 235 ((5 * (LL j).getD (i - 1) 0 : Nat) : Int) 232 ((5 * t : Nat) : Int) W = _ from nr, Option.bind_some, w32_b2i]
          by_cases c1 : m X < m ((LL j).getD (i - 1) 0)
          · rw [if_neg (by rw [b2i_0]; simpa using c1), if_pos ⟨c0, by simpa using c1⟩]
          · rw [if_pos (by rw [b2i_0]; simpa using c1), if_neg (fun q => c1 (by simpa using q.2))]
        · rw [w32_nn (by omega), if_neg (by omega), if_neg (fun q => c0 q.1)]) FU (by unfold FU; omega)
      have hbk := bk_le (fun y => decide (m X < m y)) 0 (LL j) (LL j).length
      have a1 := w3 X (by omega)
      rw [bk_ins (LLs j (by omega))] at a1
      generalize hq : bk (fun y => decide (m X < m y)) 0 (LL j) (LL j).length = P at w1 a1 hbk
      have fW := f1.trans (Fb_ex (c := 106) w2)
      have lenI : (insM m X (LL j)).length = (LL j).length + 1 := insM_len
      have w50 : vI (st2 W 240 P (X : Int)) 156 106 = (((LL j).length : Nat) : Int) := by rw [vI_ne (by omega), w2.vI (by decide)]; exact f2
      have w0 : vI (st2 W 240 P (X : Int)) 156 0 = (k : Int) := by rw [vI_ne (by omega), w2.vI (by decide)]; exact u0
      refine ⟨(((X : Nat) : Int) + 1, st2 (st2 W 240 P (X : Int)) 156 106 (((LL (j + 1)).length : Nat) : Int)), ?_, by dsimp only; omega, (fW.trans Fb_st).trans Fb_p2, ?_, ?_⟩
      · unfold l_X16_makeFront_43
        rw [show w32 (U 156 106) = _ from f2]
        refine w1.trans ?_
        unfold j_X16_makeFront_109 j_X16_makeFront_141 j_X16_makeFront_144
        rw [s2_n (by omega) (by decide), Option.bind_some, show w32 (st2 W 240 P (X : Int) 156 106) = _ from w50, show w32 (st2 W 240 P (X : Int) 156 0) = _ from w0, w32_nn (by omega), w32_nn (by omega), p2_e, p2_e, Option.bind_some, Option.bind_some, cadd1]
        have hlen : (LL (j + 1)).length = if (LL j).length < k then (LL j).length + 1 else k := by
          rw [LLy j (by rw [← hX]; exact ho), ← hX, List.length_take, lenI]
          split <;> omega
        by_cases c2 : (LL j).length < k
        · rw [if_pos c2] at hlen
          rw [if_pos (by omega), hlen]; rfl
        · rw [if_neg c2] at hlen
          rw [if_neg (by omega), hlen]; rfl
      · dsimp only
        rw [vI_eq rfl, w32_nn (by have := LLl (j + 1); omega)]
      · dsimp only
        rw [LLy j (by rw [← hX]; exact ho), ← hX]
        exact ArrN_take (ArrN_vI a1 (fun i => vI_ne (by omega)))
  obtain ⟨⟨z, V'⟩, n2, hn2, ⟨rfl, g1, g2, g3⟩, q2⟩ := lp_inv (b := fun s : Int × VV => b_X16_makeFront_10 (t : Int) s.1 s.2) (fun j s => s.1 = ((65 * t + j : Nat) : Int) ∧ Fb 240 106 V s.2 ∧ vI s.2 156 106 = (((LL j).length : Nat) : Int) ∧ ArrN s.2 240 (LL j)) E.length stp FU 0 (((65 * t : Nat) : Int), st2 V 156 106 0) (by omega) (by unfold FU; omega) ⟨rfl, Fb_p2, by dsimp only; rw [vI_eq rfl]; simp [LL, sl, rws, srt, w32_0], by simp [LL, sl, rws, srt, ArrN]⟩
  dsimp only at g1 g2 g3
  refine ⟨V', LL E.length, ?_, g1, g2, g3, LLm E.length, ?_⟩
  · unfold f_X16_makeFront l_X16_makeFront_10
    rw [p2_e, Option.bind_some, c65m]
    refine q2.trans ?_
    refine lpN_end (b := fun s : Int × VV => b_X16_makeFront_10 (t : Int) s.1 s.2) hn2 ?_
    dsimp only
    have u234 : vI V' 234 t = (E.length : Int) := by rw [g1.vI (by decide) (by omega)]; exact h234
    unfold b_X16_makeFront_10
    rw [l2_n (by omega) (by decide), Option.bind_some, u234, c65m, cadd, w32_nn (by omega), if_neg (by omega)]
  · have e2 : (sl E.length).map (gE V) = (rws (fun i => gE V (65 * t + i)) E.length).filter (fun y => decide (eSt y ≠ 3)) := by
      show ((rws _ _).filter o).map (gE V) = (rws _ _).filter _
      unfold rws
      rw [List.filter_map, List.filter_map, List.map_map]
      rfl
    have pm : ((sl E.length).map (gE V)).Perm (E.filter (fun y => decide (eSt y ≠ 3))) := by
      rw [e2]
      exact h.2.2.2.filter _
    have e1 : (LL E.length).map (gE V) = (srt (dE tgt) ((sl E.length).map (gE V))).take k := by
      show ((srt m (sl E.length)).take k).map (gE V) = _
      rw [← srt_map (gE V) (dE tgt), List.map_take]
    rw [e1, srt_of (hok.2.1.filter _) pm.symm]
    rfl
/-- the first one that is new; whether all have answered -/
def nextE (F : List Ent) : Option Ent := F.find? (fun x => decide (eSt x = 0))
def allE (F : List Ent) : Bool := F.all (fun x => decide (eSt x = 2))
theorem v_scan {Ls : List Nat} {F : List Ent} (hA : ArrN V 240 Ls) (hl : Ls.length ≤ 20) (hsl : ∀ r, r ∈ Ls → r < 2860) (hF : Ls.map (gE V) = F) : ∃ nxt : Int, l_X16_lookOn_17 (t : Int) (-1) 1 ((Ls.length : Int) - 1) V = j_X16_lookOn_81 (t : Int) nxt (b2i (allE F)) V ∧ ((nextE F = none ∧ nxt = -1) ∨ ∃ r, r ∈ Ls ∧ nxt = (r : Int) ∧ nextE F = some (gE V r)) := by
  -- from behind: of the last ones
  have key : ∀ j fu nxt, j ≤ Ls.length → j < fu → ((nextE ((Ls.drop j).map (gE V)) = none ∧ nxt = -1) ∨ ∃ r, r ∈ Ls ∧ nxt = ((r : Nat) : Int) ∧ nextE ((Ls.drop j).map (gE V)) = some (gE V r)) → ∃ nxt', lpN (fun s : Int × Int × Int => b_X16_lookOn_17 (t : Int) s.1 s.2.1 s.2.2 V) fu (nxt, b2i (allE ((Ls.drop j).map (gE V))), (j : Int) - 1) = j_X16_lookOn_81 (t : Int) nxt' (b2i (allE F)) V ∧ ((nextE F = none ∧ nxt' = -1) ∨ ∃ r, r ∈ Ls ∧ nxt' = ((r : Nat) : Int) ∧ nextE F = some (gE V r)) := by
    intro j
    induction j with
    | zero =>
      intro fu nxt hj hf hn
      obtain ⟨f, rfl⟩ : ∃ f, fu = f + 1 := ⟨fu - 1, by omega⟩
      rw [List.drop_zero, hF] at hn ⊢
      refine ⟨nxt, ?_, hn⟩
      refine lpN_xit (b := fun s : Int × Int × Int => b_X16_lookOn_17 (t : Int) s.1 s.2.1 s.2.2 V) ?_
      show b_X16_lookOn_17 (t : Int) nxt (b2i (allE F)) (((0 : Nat) : Int) - 1) V = _
      unfold b_X16_lookOn_17
      rw [if_pos (by decide)]
    | succ j ih =>
      intro fu nxt hj hf hn
      obtain ⟨f, rfl⟩ : ∃ f, fu = f + 1 := ⟨fu - 1, by omega⟩
      have hr := hA j (by omega)
      have hm := getD_mem (d := 0) (show j < Ls.length by omega)
      have hrs := hsl _ hm
      have hd : Ls.drop j = Ls.getD j 0 :: Ls.drop (j + 1) := by
        have e : Ls.getD j 0 = Ls[j]'(by omega) := by grind
        rw [e, List.drop_eq_getElem_cons (by omega)]
      generalize hX : Ls.getD j 0 = X at hr hm hrs hd
      have e237 : vI V 237 X = eSt (gE V X) := rfl
      have ec : ((j + 1 : Nat) : Int) - 1 = (j : Int) := by omega
      have st1 : b_X16_lookOn_17 (t : Int) nxt (b2i (allE ((Ls.drop (j + 1)).map (gE V)))) (((j + 1 : Nat) : Int) - 1) V = some (.inl ((if eSt (gE V X) = 0 then (X : Int) else nxt), b2i (allE ((Ls.drop j).map (gE V))), (j : Int) - 1)) := by
        have ea : allE ((Ls.drop j).map (gE V)) = (decide (eSt (gE V X) = 2) && allE ((Ls.drop (j + 1)).map (gE V))) := by
          rw [hd]; rfl
        unfold b_X16_lookOn_17 j_X16_lookOn_48 j_X16_lookOn_73 j_X16_lookOn_74
        rw [ec, w32_nn (by omega), if_neg (by omega)]
        simp (disch := omega) only [l2_n, Option.bind_some, hr, w32_vI, e237, w32_b2i, show w32 2 = 2 by decide]
        have hwS : w32 (eSt (gE V X)) = eSt (gE V X) := by rw [← e237, w32_vI]
        rw [ea]
        generalize allE ((Ls.drop (j + 1)).map (gE V)) = A
        generalize eSt (gE V X) = S at hwS
        rw [hwS]
        by_cases c0 : S = 0
        · rw [if_pos c0, if_pos c0]
          have : ¬ S = 2 := by omega
          rw [if_neg this, decide_eq_false this]
          cases A <;> simp [cnt, b2i] <;> omega
        · rw [if_neg c0, if_neg c0]
          by_cases c2 : S = 2
          · rw [if_pos c2, decide_eq_true c2]
            cases A <;> simp [cnt, b2i] <;> omega
          · rw [if_neg c2, decide_eq_false c2]
            cases A <;> simp [cnt, b2i] <;> omega
      rw [lpN_cnt (b := fun s : Int × Int × Int => b_X16_lookOn_17 (t : Int) s.1 s.2.1 s.2.2 V) (s := (nxt, b2i (allE ((Ls.drop (j + 1)).map (gE V))), ((j + 1 : Nat) : Int) - 1)) st1]
      refine ih f _ (by omega) (by omega) ?_
      have en : nextE ((Ls.drop j).map (gE V)) = if eSt (gE V X) = 0 then some (gE V X) else nextE ((Ls.drop (j + 1)).map (gE V)) := by
        rw [hd]
        unfold nextE
        rw [List.map_cons, List.find?_cons]
        by_cases c0 : eSt (gE V X) = 0
        · rw [if_pos c0, decide_eq_true c0]
        · rw [if_neg c0, decide_eq_false c0]
      rw [en]
      by_cases c0 : eSt (gE V X) = 0
      · rw [if_pos c0, if_pos c0]
        exact Or.inr ⟨X, hm, rfl, rfl⟩
      · rw [if_neg c0, if_neg c0]
        exact hn
  unfold l_X16_lookOn_17
  have := key Ls.length FU (-1) (Nat.le_refl _) (by unfold FU; omega) (Or.inl ⟨by rw [List.drop_length]; rfl, rfl⟩)
  rw [List.drop_length] at this
  exact this
end VFRONT
/-- a turn more: what a work waited for is nothing to it -/
theorem rq_turn {V : VV} {Rs : Nat → List Rq} {nx : Nat → Nat} {t : Nat} {v : Int} (h : RqsV V Rs nx) (ht : t < 44) (hv : vI V 231 t < w32 v) : RqsV (st2 V 231 t v) (fun p => (Rs p).map (dtQ t)) nx := by
  intro p hp
  have hR := h p hp
  have esl : slQ (st2 V 231 t v) p = slQ V p := List.filter_congr (fun r hr => by rw [vI_ne (by omega)])
  have r1 : ∀ a j, a ≠ 231 → vI (st2 V 231 t v) a j = vI V a j := fun a j ha => vI_ne (by omega)
  have g : ∀ r, r ∈ slQ V p → gQ (st2 V 231 t v) r = dtQ t (gQ V r) := by
    intro r hr
    have hs := hR.2.2.2.2 r hr
    have e : (if 0 ≤ vI V 204 r ∧ vI V 205 r = vI (st2 V 231 t v) 231 (vI V 204 r).toNat then some (vI V 204 r).toNat else none) = if (if 0 ≤ vI V 204 r ∧ vI V 205 r = vI V 231 (vI V 204 r).toNat then some (vI V 204 r).toNat else none) = some t then none else (if 0 ≤ vI V 204 r ∧ vI V 205 r = vI V 231 (vI V 204 r).toNat then some (vI V 204 r).toNat else none) := by
      by_cases c : (vI V 204 r).toNat = t
      · have e1 : vI (st2 V 231 t v) 231 (vI V 204 r).toNat = w32 v := by rw [vI_st2, if_pos ⟨rfl, c⟩]
        have h2 := hs.2.2
        rw [c] at h2
        rw [e1, if_neg (fun z => by omega), c]
        split
        · rw [if_pos rfl]
        · rw [if_neg (by simp)]
      · rw [vI_ne (by omega)]
        split
        · next q =>
          rw [if_neg (fun z => c (Option.some.inj z))]
        · rfl
    unfold gQ dtQ qNum qAdr qTyp qDdl qSnt qKey qByt qWrk qPrb
    dsimp only
    rw [r1 198 r (by decide), r1 199 r (by decide), r1 201 r (by decide), r1 202 r (by decide), r1 203 r (by decide), r1 204 r (by decide), r1 205 r (by decide), r1 206 r (by decide), r1 207 r (by decide), gk_st2 (by decide), rws_congr (g := fun i => vI V 208 (350 * r + i)) (fun i _ => r1 208 _ (by decide)), e]
  refine ⟨by rw [r1 _ _ (by decide)]; exact hR.1, ?_, ?_, fun y hy => ?_, fun r hr => ?_⟩
  · rw [esl]
    have : (slQ V p).map (gQ (st2 V 231 t v)) = ((slQ V p).map (gQ V)).map (dtQ t) := by
      rw [List.map_map]
      exact List.map_congr_left g
    rw [this]
    exact hR.2.1.map _
  · rw [List.pairwise_map]
    exact hR.2.2.1.imp (fun q => q)
  · obtain ⟨z, hz, rfl⟩ := List.mem_map.mp hy
    exact hR.2.2.2.1 z hz
  · rw [esl] at hr
    have hs := hR.2.2.2.2 r hr
    rw [g r hr, r1 207 r (by decide), r1 204 r (by decide), r1 205 r (by decide)]
    refine ⟨hs.1, hs.2.1, ?_⟩
    rw [vI_st2]
    split
    · next q =>
      have := hs.2.2
      rw [q.2] at this
      omega
    · exact hs.2.2
