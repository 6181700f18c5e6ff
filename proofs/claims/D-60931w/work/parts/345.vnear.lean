/-! the nearest ones -/
/-- but for an array and a word -/
def Fb (A c : Nat) (V W : VV) : Prop := ∀ a i, a ≠ A → ¬ (a = 156 ∧ i = c) → W a i = V a i
section FB
variable {A c : Nat} {V W W2 : VV} {a i e q : Nat} {v : Int}
theorem Fb.refl : Fb A c V V := fun _ _ _ _ => rfl
theorem Fb.trans (h1 : Fb A c V W) (h2 : Fb A c W W2) : Fb A c V W2 := fun a i q1 q2 => (h2 a i q1 q2).trans (h1 a i q1 q2)
theorem Fb_st : Fb A c V (st2 V A i v) := fun _ _ q1 _ => st2_ne (fun q => q1 q.1)
theorem Fb_p2 : Fb A c V (st2 V 156 c v) := fun _ _ _ q2 => st2_ne (fun q => q2 q)
theorem Fb_ex (h : ExV (fun q => q = A) V W) : Fb A c V W := fun a i q1 _ => h a q1 i
theorem Fb.vI (h : Fb A c V W) (h1 : a ≠ A) (h2 : ¬ (a = 156 ∧ i = c)) : vI W a i = vI V a i := by
  show w32 _ = w32 _
  rw [h a i h1 h2]
theorem Fb.gk (h : Fb A c V W) (h1 : e ≠ A) (h2 : e ≠ 156) : gk W e q = gk V e q := gk_ext (fun i _ => h.vI h1 (fun z => h2 z.1))
theorem Fb.gR (h : Fb A c V W) (h1 : A < 190 ∨ 194 < A) : gR W i = gR V i := gR_ext (h.gk (by omega) (by omega)) (h.vI (by omega) (by omega)) (h.vI (by omega) (by omega)) (h.vI (by omega) (by omega)) (h.vI (by omega) (by omega))
theorem ArrN_take {L : List Nat} {k : Nat} (h : ArrN V a L) : ArrN V a (L.take k) := by
  intro j hj
  rw [List.length_take] at hj
  rw [h j (by omega)]
  grind
theorem ArrN_vI {L : List Nat} (h : ArrN V a L) (hw : ∀ i, vI W a i = vI V a i) : ArrN W a L := fun j hj => by rw [hw]; exact h j hj
end FB
theorem m195 : mA 195 5 := by refine ⟨?_, ?_, ?_, ?_, ?_⟩ <;> decide
theorem getD_mem {α : Type} {L : List α} {j : Nat} {d : α} (h : j < L.length) : L.getD j d ∈ L := by
  have : L.getD j d = L[j] := by grind
  rw [this]; exact List.getElem_mem h
theorem rws_filter_succ {α : Type} {f : Nat → α} {g : α → Bool} {n : Nat} : (rws f (n + 1)).filter g = (rws f n).filter g ++ if g (f n) = true then [f n] else [] := by
  rw [rws_succ, List.filter_append]
  congr 1
  cases h : g (f n) <;> simp [h]
/-- what may be told to one that asks: no reserves, not itself -/
def okN (wo : Option Ky) (x : Row) : Bool := !x.2.2 && !decide (wo = some x.1)
def nearT (k : Nat) (tgt : Ky) (wo : Option Ky) (T : List Row) : List Row := (srt (fun x => kdi x.1 tgt) (T.filter (okN wo))).take k
section VNEAR
variable {V W : VV} {p i : Nat} {own : Ky} {T : List Row} {Z : Nat} {k : Nat} {x2 x3 : Int} {wo : Option Ky}
theorem v_nodesFor (h : TabV V p own T Z) (hp : p < 32) (hk0 : vI V 156 0 = (k : Int)) (hk : 1 ≤ k ∧ k ≤ 20) (hwo : (w32 x3 < 0 ∧ wo = none) ∨ ∃ e q n, x2 = ((e : Nat) : Int) ∧ x3 = ((q : Nat) : Int) ∧ mA e n ∧ q + 5 ≤ n ∧ n ≤ 1000000 ∧ e ≠ 196 ∧ wo = some (gk V e q)) :
    ∃ V' Ls, f_X16_nodesFor (p : Int) x2 x3 V = some V' ∧ Fb 196 50 V V' ∧ vI V' 156 50 = ((Ls.length : Nat) : Int) ∧ ArrN V' 196 Ls ∧ (∀ r, r ∈ Ls → ∃ i, i < T.length ∧ r = 1100 * p + i) ∧ Ls.map (fun r => ((gR V r).1, (gR V r).2.1)) = (nearT k (gk V 195 0) wo T).map (fun x => (x.1, x.2.1)) := by
  have h189 := h.1
  have hok := h.2.1
  have hl := hok.1
  let tgt := gk V 195 0
  let m : Nat → Nat := fun r => kdi (gk V 190 (5 * r)) tgt
  let o : Nat → Bool := fun r => decide (vI V 193 r = 0) && !decide (wo = some (gk V 190 (5 * r)))
  let sl : Nat → List Nat := fun j => (rws (fun i => 1100 * p + i) j).filter o
  -- slots are apart
  have hap : ∀ i j, i < T.length → j < T.length → gk V 190 (5 * (1100 * p + i)) = gk V 190 (5 * (1100 * p + j)) → i = j := by
    intro i j hi hj hij
    obtain ⟨-, -, TS, h2, h3, h4, h5⟩ := h
    have hn : ((rowsV V p T.length).map (·.1)).Nodup := by
      rw [(h5.map _).nodup_iff]
      have e : (TS.map (enc own)).map (·.1) = T.map (·.1) := by rw [← h2]; simp [enc]
      rw [e]; exact hok.2.1
    have e1 : ((rowsV V p T.length).map (·.1)) = rws (fun i => gk V 190 (5 * (1100 * p + i))) T.length := by simp [rowsV, rws, gR]
    rw [e1] at hn
    have q := List.pairwise_iff_getElem.mp hn
    rcases Nat.lt_trichotomy i j with c | c | c
    · exact absurd (by rw [rws_get, rws_get]; exact hij) (q i j (by rw [rws_len]; exact hi) (by rw [rws_len]; exact hj) c)
    · exact c
    · exact absurd (by rw [rws_get, rws_get]; exact hij.symm) (q j i (by rw [rws_len]; exact hj) (by rw [rws_len]; exact hi) c)
  have slm : ∀ j r, r ∈ sl j → ∃ i, i < j ∧ r = 1100 * p + i := by
    intro j r hr
    obtain ⟨i, hi, e⟩ := rws_mem.mp (List.mem_filter.mp hr).1
    exact ⟨i, hi, e.symm⟩
  have slN : ∀ j, j ≤ T.length → ((sl j).map m).Nodup := by
    intro j hj
    have hs : (rws (fun i => 1100 * p + i) j).Pairwise (fun a b => a < b) := by
      rw [List.pairwise_iff_getElem]
      intro a b ha hb hab
      rw [rws_get, rws_get]; omega
    have hs2 : (sl j).Pairwise (fun a b => a < b) := hs.filter _
    rw [List.Nodup, List.pairwise_map]
    refine List.Pairwise.imp_of_mem (fun {a b} ha hb hab z => ?_) hs2
    obtain ⟨i1, hi1, rfl⟩ := slm j a ha
    obtain ⟨i2, hi2, rfl⟩ := slm j b hb
    have := hap i1 i2 (by omega) (by omega) (kdi_inj (gk_ok _ _ _) (gk_ok _ _ _) z)
    omega
  let LL : Nat → List Nat := fun j => (srt m (sl j)).take k
  have LLm : ∀ j r, r ∈ LL j → ∃ i, i < j ∧ r = 1100 * p + i := fun j r hr => slm j r ((srt_perm m (sl j)).mem_iff.mp (List.mem_of_mem_take hr))
  have LLl : ∀ j, (LL j).length ≤ k := fun j => by rw [List.length_take]; omega
  have LLs : ∀ j, j ≤ T.length → SrtM m (LL j) := fun j hj => (srt_srt (slN j hj)).sublist (List.take_sublist _ _)
  have LLn : ∀ j, o (1100 * p + j) = false → LL (j + 1) = LL j := by
    intro j hj
    show (srt m (sl (j + 1))).take k = _
    have : sl (j + 1) = sl j := by
      show (rws _ _).filter o = _
      rw [rws_filter_succ, if_neg (by rw [hj]; decide), List.append_nil]
    rw [this]
  have LLy : ∀ j, o (1100 * p + j) = true → LL (j + 1) = (insM m (1100 * p + j) (LL j)).take k := by
    intro j hj
    show (srt m (sl (j + 1))).take k = (insM m _ ((srt m (sl j)).take k)).take k
    have : sl (j + 1) = sl j ++ [1100 * p + j] := by
      show (rws _ _).filter o = _
      rw [rws_filter_succ, if_pos hj]
    rw [this, insM_take]
    unfold srt
    rw [List.foldl_append]
    rfl
  -- the loop
  have stp : ∀ j (s : Int × VV), j < T.length → (s.1 = ((1100 * p + j : Nat) : Int) ∧ Fb 196 50 V s.2 ∧ vI s.2 156 50 = (((LL j).length : Nat) : Int) ∧ ArrN s.2 196 (LL j)) → ∃ s', b_X16_nodesFor_12 (p : Int) x2 x3 s.1 s.2 = some (.inl s') ∧ (s'.1 = ((1100 * p + (j + 1) : Nat) : Int) ∧ Fb 196 50 V s'.2 ∧ vI s'.2 156 50 = (((LL (j + 1)).length : Nat) : Int) ∧ ArrN s'.2 196 (LL (j + 1))) := by
    rintro j ⟨z, U⟩ hj ⟨rfl, f1, f2, f3⟩
    dsimp only at f1 f2 f3 ⊢
    have u189 : vI U 189 p = (T.length : Int) := by rw [f1.vI (by decide) (by omega)]; exact h189
    have u0 : vI U 156 0 = (k : Int) := by rw [f1.vI (by decide) (by omega)]; exact hk0
    have u193 : vI U 193 (1100 * p + j) = vI V 193 (1100 * p + j) := f1.vI (by decide) (by omega)
    have skip : o (1100 * p + j) = false → ∃ s', j_X16_nodesFor_183 (p : Int) x2 x3 ((1100 * p + j : Nat) : Int) U = some (.inl s') ∧ (s'.1 = ((1100 * p + (j + 1) : Nat) : Int) ∧ Fb 196 50 V s'.2 ∧ vI s'.2 156 50 = (((LL (j + 1)).length : Nat) : Int) ∧ ArrN s'.2 196 (LL (j + 1))) := by
      intro ho
      exact ⟨(((1100 * p + j : Nat) : Int) + 1, U), rfl, by dsimp only; omega, f1, by rw [LLn j ho]; exact f2, by rw [LLn j ho]; exact f3⟩
    have take : o (1100 * p + j) = true → ∃ s', j_X16_nodesFor_70 (p : Int) x2 x3 ((1100 * p + j : Nat) : Int) U = some (.inl s') ∧ (s'.1 = ((1100 * p + (j + 1) : Nat) : Int) ∧ Fb 196 50 V s'.2 ∧ vI s'.2 156 50 = (((LL (j + 1)).length : Nat) : Int) ∧ ArrN s'.2 196 (LL (j + 1))) := by
      intro ho
      have hkl := LLl j
      obtain ⟨X, hX⟩ : ∃ X, X = 1100 * p + j := ⟨_, rfl⟩
      rw [← hX] at ho ⊢
      have bg : ∀ i, i < (LL j).length → ∃ i2, i2 < j ∧ (LL j).getD i 0 = 1100 * p + i2 := fun i hi => LLm j _ (getD_mem hi)
      obtain ⟨W, w1, w2, w3⟩ := ins_loop (b := fun s : Int × VV => b_X16_nodesFor_76 (p : Int) x2 x3 ((X : Nat) : Int) s.1 s.2) (κ := fun z W => j_X16_nodesFor_146 (p : Int) x2 x3 ((X : Nat) : Int) z W) (lt := fun y => decide (m X < m y)) f3 (fun i hi => by obtain ⟨i2, h2, e⟩ := bg i hi; omega) (by
        intro i W hi hW hlo
        dsimp only
        have fW := f1.trans (Fb_ex (c := 50) hW)
        unfold b_X16_nodesFor_76
        by_cases c0 : 0 < i
        · obtain ⟨i2, hi2, ei⟩ := bg (i - 1) (by omega)
          have e1 : vI W 196 (i - 1) = (((LL j).getD (i - 1) 0 : Nat) : Int) := by rw [hlo _ (by omega)]; exact f3 _ (by omega)
          have e2 : (190 : Int) = ((190 : Nat) : Int) := rfl
          have e3 : (195 : Int) = ((195 : Nat) : Int) := rfl
          have e4 : (0 : Int) = ((0 : Nat) : Int) := rfl
          have nr := v_nearer (V := W) (p := 5 * X) (p' := 5 * ((LL j).getD (i - 1) 0)) (p'' := 0) m190 (by omega) (by decide) m190 (by omega) (by decide) m195 (by decide) (by decide)
          rw [fW.gk (by decide) (by decide), fW.gk (by decide) (by decide), fW.gk (by decide) (by decide)] at nr
          unfold j_X16_nodesFor_111
          rw [w32_nn (by omega), if_pos (by omega), if_pos (by omega)]
          simp (disch := omega) only [csub1, cdec1, l2_n, s2_n, Option.bind_some, e1, c5m]
          rw [show f_X16_nearer 190 ((5 * X : Nat) : Int) 190 ((5 * (LL j).getD (i - 1) 0 : Nat) : Int) 195 0 W = _ from nr, Option.bind_some, w32_b2i]
          by_cases c1 : m X < m ((LL j).getD (i - 1) 0)
          · rw [if_neg (by rw [b2i_0]; simpa using c1), if_pos ⟨c0, by simpa using c1⟩]
          · rw [if_pos (by rw [b2i_0]; simpa using c1), if_neg (fun q => c1 (by simpa using q.2))]
        · rw [w32_nn (by omega), if_neg (by omega), if_neg (fun q => c0 q.1)]) FU (by unfold FU; omega)
      have hbk := bk_le (fun y => decide (m X < m y)) 0 (LL j) (LL j).length
      have a1 := w3 X (by omega)
      rw [bk_ins (LLs j (by omega))] at a1
      generalize hq : bk (fun y => decide (m X < m y)) 0 (LL j) (LL j).length = P at w1 a1 hbk
      have fW := f1.trans (Fb_ex (c := 50) w2)
      have lenI : (insM m X (LL j)).length = (LL j).length + 1 := insM_len
      have w50 : vI (st2 W 196 P (X : Int)) 156 50 = (((LL j).length : Nat) : Int) := by rw [vI_ne (by omega), w2.vI (by decide)]; exact f2
      have w0 : vI (st2 W 196 P (X : Int)) 156 0 = (k : Int) := by rw [vI_ne (by omega), w2.vI (by decide)]; exact u0
      refine ⟨(((X : Nat) : Int) + 1, st2 (st2 W 196 P (X : Int)) 156 50 (((LL (j + 1)).length : Nat) : Int)), ?_, by dsimp only; omega, (fW.trans Fb_st).trans Fb_p2, ?_, ?_⟩
      · unfold j_X16_nodesFor_70 l_X16_nodesFor_76
        rw [v156, f2]
        refine w1.trans ?_
        unfold j_X16_nodesFor_146 j_X16_nodesFor_180 j_X16_nodesFor_183
        rw [s2_n (by omega) (by decide), Option.bind_some, show w32 (st2 W 196 P (X : Int) 156 50) = _ from w50, show w32 (st2 W 196 P (X : Int) 156 0) = _ from w0, w32_nn (by omega), w32_nn (by omega), p2_e, p2_e, Option.bind_some, Option.bind_some, cadd1]
        have hlen : (LL (j + 1)).length = if (LL j).length < k then (LL j).length + 1 else k := by
          rw [LLy j (by rw [← hX]; exact ho), ← hX, List.length_take, lenI]
          split <;> omega
        by_cases c2 : (LL j).length < k
        · rw [if_pos c2] at hlen
          rw [if_pos (by omega), hlen]; rfl
        · rw [if_neg c2] at hlen
          rw [if_neg (by omega), hlen]; rfl
      · dsimp only
        rw [vI_eq rfl, w32_nn (by have := LLl (j + 1); omega)]
      · dsimp only
        rw [LLy j (by rw [← hX]; exact ho), ← hX]
        exact ArrN_take (ArrN_vI a1 (fun i => vI_ne (by omega)))
    unfold b_X16_nodesFor_12
    rw [l2_n (by omega) (by decide), Option.bind_some, u189, c1100m, cadd, w32_nn (by omega), w32_nn (by omega), if_pos (by omega), l2_n (by omega) (by decide), Option.bind_some, w32_vI, u193]
    by_cases c1 : vI V 193 (1100 * p + j) = 0
    · rw [if_pos c1]
      rcases hwo with ⟨a1, a2⟩ | ⟨e, q, n, rfl, rfl, a3, a4, a5, a6, a7⟩
      · rw [if_pos a1]
        exact take (by show (decide _ && !decide _) = true; rw [decide_eq_true c1, a2]; rfl)
      · rw [w32_nn (by omega), if_neg (by omega), if_neg (by omega)]
        unfold j_X16_nodesFor_61
        have e2 : (190 : Int) = ((190 : Nat) : Int) := rfl
        have ne156 : e ≠ 156 := fun z => by have := a3.1; omega
        rw [c5m, e2, v_same m190 (by omega) (by decide) a3 a4 a5, Option.bind_some, w32_b2i, f1.gk (by decide) (by decide), f1.gk a6 ne156]
        by_cases c2 : gk V 190 (5 * (1100 * p + j)) = gk V e q
        · rw [if_neg (by rw [b2i_0]; simpa using c2)]
          exact skip (by show (decide _ && !decide _) = false; rw [decide_eq_true c1, a7, decide_eq_true (by rw [c2])]; rfl)
        · rw [if_pos (by rw [b2i_0]; simpa using c2)]
          exact take (by show (decide _ && !decide _) = true; rw [decide_eq_true c1, a7, decide_eq_false (fun z => c2 (Option.some.inj z).symm)]; rfl)
    · rw [if_neg c1]
      exact skip (by show (decide _ && !decide _) = false; rw [decide_eq_false c1]; rfl)
  obtain ⟨⟨z, V'⟩, n2, hn2, ⟨rfl, g1, g2, g3⟩, q2⟩ := lp_inv (b := fun s : Int × VV => b_X16_nodesFor_12 (p : Int) x2 x3 s.1 s.2) (fun j s => s.1 = ((1100 * p + j : Nat) : Int) ∧ Fb 196 50 V s.2 ∧ vI s.2 156 50 = (((LL j).length : Nat) : Int) ∧ ArrN s.2 196 (LL j)) T.length stp FU 0 (((1100 * p : Nat) : Int), st2 V 156 50 0) (by omega) (by unfold FU; omega) ⟨rfl, Fb_p2, by dsimp only; rw [vI_eq rfl]; simp [LL, sl, rws, srt, w32_0], by simp [LL, sl, rws, srt, ArrN]⟩
  dsimp only at g1 g2 g3
  refine ⟨V', LL T.length, ?_, g1, g2, g3, LLm T.length, ?_⟩
  · unfold f_X16_nodesFor l_X16_nodesFor_12
    rw [p2_e, Option.bind_some, c1100m]
    refine q2.trans ?_
    refine lpN_end (b := fun s : Int × VV => b_X16_nodesFor_12 (p : Int) x2 x3 s.1 s.2) hn2 ?_
    dsimp only
    have u189 : vI V' 189 p = (T.length : Int) := by rw [g1.vI (by decide) (by omega)]; exact h189
    unfold b_X16_nodesFor_12
    rw [l2_n (by omega) (by decide), Option.bind_some, u189, c1100m, cadd, w32_nn (by omega), if_neg (by omega)]
  · -- by the table
    obtain ⟨-, -, TS, h2, h3, h4, h5⟩ := id h
    let g : Nat → RwV := fun r => gR V r
    have e1 : (LL T.length).map g = (srt (fun y : RwV => kdi y.1 tgt) ((sl T.length).map g)).take k := by
      show ((srt m (sl T.length)).take k).map g = _
      rw [← srt_map g (fun y : RwV => kdi y.1 tgt), List.map_take]
      rfl
    have e2 : (sl T.length).map g = (rowsV V p T.length).filter (fun y => decide (y.2.2.2.1 = 0) && !decide (wo = some y.1)) := by
      show ((rws _ _).filter o).map g = (rws _ _).filter _
      unfold rws
      rw [List.filter_map, List.filter_map, List.map_map]
      rfl
    have pm : ((sl T.length).map g).Perm ((TS.filter (fun y => okN wo y.1)).map (enc own)) := by
      rw [e2]
      refine (h5.filter _).trans ?_
      rw [List.filter_map]
      refine List.Perm.of_eq ?_
      congr 1
      apply List.filter_congr
      intro y hy
      show (decide (b2i y.1.2.2 = 0) && !decide (wo = some y.1.1)) = (!y.1.2.2 && !decide (wo = some y.1.1))
      congr 1
      cases y.1.2.2 <;> decide
    have nd : (((sl T.length).map g).map (fun y : RwV => kdi y.1 tgt)).Nodup := by
      rw [List.map_map]
      exact slN T.length (Nat.le_refl _)
    have e3 : (srt (fun y : RwV => kdi y.1 tgt) ((sl T.length).map g)) = (srt (fun y : Row × Int => kdi y.1.1 tgt) (TS.filter (fun y => okN wo y.1))).map (enc own) := by
      rw [srt_eq nd pm, ← srt_map (enc own) (fun y : RwV => kdi y.1 tgt)]
      rfl
    have e4 : (nearT k tgt wo T) = ((srt (fun y : Row × Int => kdi y.1.1 tgt) (TS.filter (fun y => okN wo y.1))).map (·.1)).take k := by
      unfold nearT
      have := srt_map (fun y : Row × Int => y.1) (fun x : Row => kdi x.1 tgt) (TS.filter (fun y => okN wo y.1))
      rw [this, ← h2, List.filter_map]
      rfl
    have e5 : (LL T.length).map (fun r => ((gR V r).1, (gR V r).2.1)) = ((LL T.length).map g).map (fun y => (y.1, y.2.1)) := by rw [List.map_map]; rfl
    show _ = (nearT k tgt wo T).map _
    rw [e5, e1, e3, e4, List.map_take, List.map_take, List.map_map, List.map_map]
    rfl
end VNEAR
