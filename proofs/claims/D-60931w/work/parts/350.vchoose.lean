/-- the postings of a key -/
def choS (key : Ky) (S : List Post) : List Post := S.filter (fun x => decide (x.1 = key))
section VCHO
variable {V W : VV} {p i : Nat} {S : List Post} {e q n : Nat}
theorem v_choose (h : StV V p S) (hp : p < 32) (he : mA e n) (hq : q + 5 ≤ n) (hn : n ≤ 1000000) (hne : e ≠ 216) :
    ∃ V' Ls, f_X16_choose (p : Int) (e : Int) (q : Int) V = some V' ∧ Fb 216 72 V V' ∧ vI V' 156 72 = ((Ls.length : Nat) : Int) ∧ ArrN V' 216 Ls ∧ (∀ r, r ∈ Ls → ∃ i, i < S.length ∧ r = 200 * p + i) ∧ Ls.map (gP V) = choS (gk V e q) S := by
  have h210 := h.1
  have hok := h.2.1
  have hl := hok.1
  have ne156 : e ≠ 156 := fun z => by have := he.1; omega
  let key := gk V e q
  let m : Nat → Nat := fun r => omz (vI V 212 r) (vI V 213 r)
  let o : Nat → Bool := fun r => decide (gk V 211 (5 * r) = key)
  let sl : Nat → List Nat := fun j => (rws (fun i => 200 * p + i) j).filter o
  have bnd : ∀ i, i < S.length → okP (gP V (200 * p + i)) := fun i hi => hok.2.2 _ (st_slot h hi)
  -- slots are apart
  have hap : ∀ i j, i < S.length → j < S.length → pid (gP V (200 * p + i)) = pid (gP V (200 * p + j)) → i = j := by
    intro i j hi hj hij
    have hn : ((postsV V p S.length).map pid).Nodup := (h.2.2.map pid).nodup_iff.mpr (okSt_nodup hok)
    have e1 : ((postsV V p S.length).map pid) = rws (fun i => pid (gP V (200 * p + i))) S.length := by simp [postsV, rws]
    rw [e1] at hn
    have q := List.pairwise_iff_getElem.mp hn
    rcases Nat.lt_trichotomy i j with c | c | c
    · exact absurd (by rw [rws_get, rws_get]; exact hij) (q i j (by rw [rws_len]; exact hi) (by rw [rws_len]; exact hj) c)
    · exact c
    · exact absurd (by rw [rws_get, rws_get]; exact hij.symm) (q j i (by rw [rws_len]; exact hj) (by rw [rws_len]; exact hi) c)
  have slm : ∀ j r, r ∈ sl j → ∃ i, i < j ∧ r = 200 * p + i := by
    intro j r hr
    obtain ⟨i, hi, e⟩ := rws_mem.mp (List.mem_filter.mp hr).1
    exact ⟨i, hi, e.symm⟩
  have slk : ∀ j r, r ∈ sl j → gk V 211 (5 * r) = key := fun j r hr => by simpa [o] using (List.mem_filter.mp hr).2
  have slN : ∀ j, j ≤ S.length → ((sl j).map m).Nodup := by
    intro j hj
    have hs : (rws (fun i => 200 * p + i) j).Pairwise (fun a b => a < b) := by
      rw [List.pairwise_iff_getElem]
      intro a b ha hb hab
      rw [rws_get, rws_get]; omega
    have hs2 : (sl j).Pairwise (fun a b => a < b) := hs.filter _
    rw [List.Nodup, List.pairwise_map]
    refine List.Pairwise.imp_of_mem (fun {a b} ha hb hab z => ?_) hs2
    have k1 := slk j a ha
    have k2 := slk j b hb
    obtain ⟨i1, hi1, rfl⟩ := slm j a ha
    obtain ⟨i2, hi2, rfl⟩ := slm j b hb
    have b1 := bnd i1 (by omega)
    have b2 := bnd i2 (by omega)
    have z : omz (vI V 212 (200 * p + i1)) (vI V 213 (200 * p + i1)) = omz (vI V 212 (200 * p + i2)) (vI V 213 (200 * p + i2)) := z
    unfold omz at z
    obtain ⟨-, b11, b12, -⟩ := b1
    obtain ⟨-, b21, b22, -⟩ := b2
    have b11 : 0 ≤ vI V 212 (200 * p + i1) ∧ vI V 212 (200 * p + i1) < 32 := b11
    have b12 : 0 ≤ vI V 213 (200 * p + i1) ∧ vI V 213 (200 * p + i1) < 16 := b12
    have b21 : 0 ≤ vI V 212 (200 * p + i2) ∧ vI V 212 (200 * p + i2) < 32 := b21
    have b22 : 0 ≤ vI V 213 (200 * p + i2) ∧ vI V 213 (200 * p + i2) < 16 := b22
    have := hap i1 i2 (by omega) (by omega) (by
      unfold pid gP
      simp only
      rw [k1, k2, show vI V 212 (200 * p + i1) = vI V 212 (200 * p + i2) by omega, show vI V 213 (200 * p + i1) = vI V 213 (200 * p + i2) by omega])
    omega
  let LL : Nat → List Nat := fun j => srt m (sl j)
  have LLm : ∀ j r, r ∈ LL j → ∃ i, i < j ∧ r = 200 * p + i := fun j r hr => slm j r ((srt_perm m (sl j)).mem_iff.mp hr)
  have LLl : ∀ j, (LL j).length ≤ j := fun j => by
    rw [(srt_perm m (sl j)).length_eq]
    have := List.length_filter_le o (rws (fun i => 200 * p + i) j)
    rw [rws_len] at this
    exact this
  have LLs : ∀ j, j ≤ S.length → SrtM m (LL j) := fun j hj => srt_srt (slN j hj)
  have LLn : ∀ j, o (200 * p + j) = false → LL (j + 1) = LL j := by
    intro j hj
    show srt m (sl (j + 1)) = _
    have : sl (j + 1) = sl j := by
      show (rws _ _).filter o = _
      rw [rws_filter_succ, if_neg (by rw [hj]; decide), List.append_nil]
    rw [this]
  have LLy : ∀ j, o (200 * p + j) = true → LL (j + 1) = insM m (200 * p + j) (LL j) := by
    intro j hj
    show srt m (sl (j + 1)) = insM m _ (srt m (sl j))
    have : sl (j + 1) = sl j ++ [200 * p + j] := by
      show (rws _ _).filter o = _
      rw [rws_filter_succ, if_pos hj]
    rw [this]
    unfold srt
    rw [List.foldl_append]
    rfl
  have stp : ∀ j (s : Int × VV), j < S.length → (s.1 = ((200 * p + j : Nat) : Int) ∧ Fb 216 72 V s.2 ∧ vI s.2 156 72 = (((LL j).length : Nat) : Int) ∧ ArrN s.2 216 (LL j)) → ∃ s', b_X16_choose_12 (p : Int) (e : Int) (q : Int) s.1 s.2 = some (.inl s') ∧ (s'.1 = ((200 * p + (j + 1) : Nat) : Int) ∧ Fb 216 72 V s'.2 ∧ vI s'.2 156 72 = (((LL (j + 1)).length : Nat) : Int) ∧ ArrN s'.2 216 (LL (j + 1))) := by
    rintro j ⟨z, U⟩ hj ⟨rfl, f1, f2, f3⟩
    dsimp only at f1 f2 f3 ⊢
    have u210 : vI U 210 p = (S.length : Int) := by rw [f1.vI (by decide) (by omega)]; exact h210
    have hkl := LLl j
    obtain ⟨X, hX⟩ : ∃ X, X = 200 * p + j := ⟨_, rfl⟩
    have e1 : (211 : Int) = ((211 : Nat) : Int) := rfl
    unfold b_X16_choose_12
    rw [l2_n (by omega) (by decide), Option.bind_some, u210, c200m, cadd, w32_nn (by omega), w32_nn (by omega), if_pos (by omega), c5m, e1, v_same m211 (by omega) (by decide) he hq hn, Option.bind_some, w32_b2i, f1.gk (by decide) (by decide), f1.gk hne ne156, ← hX]
    by_cases c1 : gk V 211 (5 * X) = gk V e q
    · rw [if_neg (by rw [b2i_0]; simpa using c1)]
      have ho : o X = true := decide_eq_true c1
      have bg : ∀ i, i < (LL j).length → ∃ i2, i2 < j ∧ (LL j).getD i 0 = 200 * p + i2 := fun i hi => LLm j _ (getD_mem hi)
      obtain ⟨W, w1, w2, w3⟩ := ins_loop (b := fun s : Int × VV => b_X16_choose_54 (p : Int) (e : Int) (q : Int) ((X : Nat) : Int) s.1 s.2) (κ := fun z W => j_X16_choose_108 (p : Int) (e : Int) (q : Int) ((X : Nat) : Int) z W) (lt := fun y => decide (m X < m y)) f3 (fun i hi => by obtain ⟨i2, h2, e⟩ := bg i hi; omega) (by
        intro i W hi hW hlo
        dsimp only
        have fW := f1.trans (Fb_ex (c := 72) hW)
        unfold b_X16_choose_54
        by_cases c0 : 0 < i
        · obtain ⟨i2, hi2, ei⟩ := bg (i - 1) (by omega)
          have e1 : vI W 216 (i - 1) = (((LL j).getD (i - 1) 0 : Nat) : Int) := by rw [hlo _ (by omega)]; exact f3 _ (by omega)
          have b1 := bnd j hj
          have b2 := bnd i2 (by omega)
          rw [← hX] at b1
          rw [← ei] at b2
          obtain ⟨-, b11, b12, -⟩ := b1
          obtain ⟨-, b21, b22, -⟩ := b2
          have w12 : ∀ z, vI W 212 z = vI V 212 z := fun z => fW.vI (by decide) (by omega)
          have w13 : ∀ z, vI W 213 z = vI V 213 z := fun z => fW.vI (by decide) (by omega)
          have nr := v_before (V := W) (X := X) (Y := (LL j).getD (i - 1) 0) (by omega) (by omega) (by rw [w12]; exact b11.1) (by rw [w13]; exact b12) (by rw [w12]; exact b21.1) (by rw [w13]; exact b22)
          rw [w12, w12, w13, w13] at nr
          unfold j_X16_choose_79
          rw [w32_nn (by omega), if_pos (by omega), if_pos (by omega)]
          simp (disch := omega) only [csub1, cdec1, l2_n, s2_n, Option.bind_some, e1]
          rw [nr, Option.bind_some, w32_b2i]
          by_cases c1 : m X < m ((LL j).getD (i - 1) 0)
          · rw [if_neg (by rw [b2i_0]; simpa using c1), if_pos ⟨c0, by simpa using c1⟩]
          · rw [if_pos (by rw [b2i_0]; simpa using c1), if_neg (fun q => c1 (by simpa using q.2))]
        · rw [w32_nn (by omega), if_neg (by omega), if_neg (fun q => c0 q.1)]) FU (by unfold FU; omega)
      have hbk := bk_le (fun y => decide (m X < m y)) 0 (LL j) (LL j).length
      have a1 := w3 X (by omega)
      rw [bk_ins (LLs j (by omega))] at a1
      generalize hq : bk (fun y => decide (m X < m y)) 0 (LL j) (LL j).length = P at w1 a1 hbk
      have fW := f1.trans (Fb_ex (c := 72) w2)
      have hL1 : LL (j + 1) = insM m X (LL j) := by rw [LLy j (by rw [← hX]; exact ho), hX]
      have lenI : (LL (j + 1)).length = (LL j).length + 1 := by rw [hL1]; exact insM_len
      have w72 : vI (st2 W 216 P (X : Int)) 156 72 = (((LL j).length : Nat) : Int) := by rw [vI_ne (by omega), w2.vI (by decide)]; exact f2
      refine ⟨(((X : Nat) : Int) + 1, st2 (st2 W 216 P (X : Int)) 156 72 (((LL (j + 1)).length : Nat) : Int)), ?_, by dsimp only; omega, (fW.trans Fb_st).trans Fb_p2, ?_, ?_⟩
      · unfold l_X16_choose_54
        rw [show w32 (U 156 72) = _ from f2]
        refine w1.trans ?_
        unfold j_X16_choose_108 j_X16_choose_127
        rw [s2_n (by omega) (by decide), Option.bind_some, show w32 (st2 W 216 P (X : Int) 156 72) = _ from w72, p2_e, Option.bind_some, cadd1, lenI]
        rfl
      · dsimp only
        rw [vI_eq rfl, w32_nn (by omega)]
      · dsimp only
        rw [hL1]
        exact ArrN_vI a1 (fun i => vI_ne (by omega))
    · rw [if_pos (by rw [b2i_0]; simpa using c1)]
      have ho : o (200 * p + j) = false := by rw [← hX]; exact decide_eq_false c1
      exact ⟨(((X : Nat) : Int) + 1, U), rfl, by dsimp only; omega, f1, by rw [LLn j ho]; exact f2, by rw [LLn j ho]; exact f3⟩
  obtain ⟨⟨z, V'⟩, n2, hn2, ⟨rfl, g1, g2, g3⟩, q2⟩ := lp_inv (b := fun s : Int × VV => b_X16_choose_12 (p : Int) (e : Int) (q : Int) s.1 s.2) (fun j s => s.1 = ((200 * p + j : Nat) : Int) ∧ Fb 216 72 V s.2 ∧ vI s.2 156 72 = (((LL j).length : Nat) : Int) ∧ ArrN s.2 216 (LL j)) S.length stp FU 0 (((200 * p : Nat) : Int), st2 V 156 72 0) (by omega) (by unfold FU; omega) ⟨rfl, Fb_p2, by dsimp only; rw [vI_eq rfl]; simp [LL, sl, rws, srt, w32_0], by simp [LL, sl, rws, srt, ArrN]⟩
  dsimp only at g1 g2 g3
  refine ⟨V', LL S.length, ?_, g1, g2, g3, LLm S.length, ?_⟩
  · unfold f_X16_choose l_X16_choose_12
    rw [p2_e, Option.bind_some, c200m]
    refine q2.trans ?_
    refine lpN_end (b := fun s : Int × VV => b_X16_choose_12 (p : Int) (e : Int) (q : Int) s.1 s.2) hn2 ?_
    dsimp only
    have u210 : vI V' 210 p = (S.length : Int) := by rw [g1.vI (by decide) (by omega)]; exact h210
    unfold b_X16_choose_12
    rw [l2_n (by omega) (by decide), Option.bind_some, u210, c200m, cadd, w32_nn (by omega), if_neg (by omega)]
  · -- by the store
    have e2 : (sl S.length).map (gP V) = (postsV V p S.length).filter (fun y => decide (y.1 = key)) := by
      show ((rws _ _).filter o).map (gP V) = (rws _ _).filter _
      unfold rws
      rw [List.filter_map, List.filter_map, List.map_map]
      rfl
    have pm : ((sl S.length).map (gP V)).Perm (choS key S) := by
      rw [e2]
      exact h.2.2.filter _
    have e1 : (LL S.length).map (gP V) = srt (fun y : Post => omz y.2.1 y.2.2.1) ((sl S.length).map (gP V)) := by
      rw [← srt_map (gP V) (fun y : Post => omz y.2.1 y.2.2.1)]
      rfl
    rw [e1]
    refine srt_of ?_ pm.symm
    have hs : SrtM pmz (choS key S) := hok.2.1.filter _
    refine List.Pairwise.imp_of_mem (fun {a b} ha hb hab => ?_) hs
    have ka : a.1 = key := by simpa using (List.mem_filter.mp ha).2
    have kb : b.1 = key := by simpa using (List.mem_filter.mp hb).2
    unfold pmz at hab
    rw [ka, kb] at hab
    show a.2.1.toNat * 16 + a.2.2.1.toNat < b.2.1.toNat * 16 + b.2.2.1.toNat
    omega
end VCHO
