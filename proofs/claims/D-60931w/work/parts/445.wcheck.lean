section WCHECK
variable {m al N p q t t' : Nat} {own : Nat → Ky} {sd : Nat → Int} {tm ad ty how r : Int} {w : Wd} {Y Y1 : Ys} {Lb : Nat → List Trm} {key : Ky} {bd : List Int} {tl : List It}
theorem tc_sc {L : List It} {f : Nat} {k : Int} (hk : 0 ≤ k) (h : scQ L f k) (hok : okM tl) : scQ (tcL f tl L) (f + 30) k := fun i hi => by
  rw [tcL_len] at hi
  rw [tcL_get hi]
  have h0 := h i hi
  by_cases c : f ≤ i ∧ i < f + 30
  · rw [if_pos c, if_pos c.2]
    have := (chk1_w (tl := tl) (y := L.getD i it0) (fun z hz => (hok.2 z hz).2.2)).2
    rw [if_neg (by omega)] at h0
    omega
  · rw [if_neg c]
    by_cases d : i < f
    · rw [if_pos d] at h0
      rw [if_pos (by omega)]; exact h0
    · rw [if_neg d] at h0
      rw [if_neg (by omega)]; exact h0
theorem sc_all {L : List It} {f : Nat} {k : Int} (hk : 0 ≤ k) (h : scQ L f k) : ∀ z, z ∈ L → z.2.2 ≤ 15 * (k + 2) := fun z hz => by
  obtain ⟨i, hi, e⟩ := List.getElem_of_mem hz
  have h0 := h i hi
  have e2 : L.getD i it0 = z := by rw [List.getD_eq_getElem?_getD, List.getElem?_eq_getElem hi]; exact e
  rw [e2] at h0
  by_cases c : i < f
  · rw [if_pos c] at h0; exact h0
  · rw [if_neg c] at h0; omega
/-- a CHECK -/
theorem qOK_tc (h : qOK own Y t) (h5 : yv Y 230 t = 5) (hok : okM tl) : yv (tcY t tl Y) 226 t = 0 ∨ (qOK own (tcY t tl Y) t ∧ yv (tcY t tl Y) 226 t = yv Y 226 t ∧ yv (tcY t tl Y) 230 t = 5 ∧ ((yv (tcY t tl Y) 263 t = yv Y 263 t ∧ yv (tcY t tl Y) 264 t = yv Y 264 t + 30 ∧ yv Y 264 t < 200) ∨ (yv Y 263 t = 0 ∧ yv (tcY t tl Y) 263 t = 2 ∧ yv (tcY t tl Y) 264 t = 0 ∧ yv Y 264 t < 200))) := by
  obtain ⟨q1, q2, q3, q4, q5, q6, q7, q8, q9, q10, q11⟩ := h
  obtain ⟨⟨k1, k2⟩, k3, k4, k5⟩ := q10 h5
  have l200 := q9.1
  obtain ⟨f, hf⟩ : ∃ f : Nat, yv Y 264 t = (f : Int) := ⟨(yv Y 264 t).toNat, by omega⟩
  have ft : (yv Y 264 t).toNat = f := by omega
  rw [ft] at k5
  obtain ⟨k, hk⟩ : ∃ k : Int, k = if yv Y 263 t = 0 then 0 else 1 := ⟨_, rfl⟩
  have hk0 : 0 ≤ k ∧ k ≤ 1 := by rw [hk]; by_cases c : yv Y 263 t = 0
                                 · rw [if_pos c]; omega
                                 · rw [if_neg c]; omega
  rw [← hk] at k5
  have all := sc_all hk0.1 k5
  have okl : okL (tcL f tl (qL (yq Y) t)) := okL_tc q9 hok (fun z hz => by have := all z hz; omega)
  have sc' := tc_sc hk0.1 k5 hok
  unfold tcY
  rw [ft]
  by_cases c : f + 30 < (qL (yq Y) t).length
  · rw [if_pos c]
    right
    obtain ⟨Y1, hY⟩ : ∃ Y1, Y1 = (yw Y, yl Y, st2 (ys Y) 264 t (yv Y 264 t + 30), lstQ t (tcL f tl (qL (yq Y) t)) (tcF f tl (qL (yq Y) t) (qF (yq Y) t)) (yq Y)) := ⟨_, rfl⟩
    have v : ∀ a i, a ≠ 264 → yv Y1 a i = yv Y a i := fun a i z => by rw [hY]; exact vI_ne (by omega)
    have v4 : yv Y1 264 t = yv Y 264 t + 30 := by
      rw [hY]
      show vI (st2 (ys Y) 264 t (yv Y 264 t + 30)) 264 t = _
      rw [vI_eq rfl, w32s (by omega)]
    have vp : yp Y1 t = yp Y t := by unfold yp; rw [show vI (ys Y1) 228 t = vI (ys Y) 228 t from v 228 t (by decide)]
    have eL : qL (yq Y1) t = tcL f tl (qL (yq Y) t) := by rw [hY]; exact fup_eq
    have eF : qF (yq Y1) t = tcF f tl (qL (yq Y) t) (qF (yq Y) t) := by rw [hY]; exact fup_eq
    have eB : qB (yq Y1) = qB (yq Y) := by rw [hY]; rfl
    have eO : qO (yq Y1) = qO (yq Y) := by rw [hY]; rfl
    have eH : qH (yq Y1) = qH (yq Y) := by rw [hY]; rfl
    have lF : (tcF f tl (qL (yq Y) t) (qF (yq Y) t)).length = f + 30 := by
      unfold tcF
      rw [List.length_append, List.length_map, List.length_take, List.length_drop]
      omega
    rw [← hY]
    refine ⟨?_, v _ _ (by decide), by rw [v _ _ (by decide)]; exact h5, Or.inl ⟨v _ _ (by decide), v4, by omega⟩⟩
    unfold qOK
    rw [v 247 _ (by decide), v 254 _ (by decide), v 230 _ (by decide), v 256 _ (by decide), v 263 _ (by decide), v4, vp, eB, eO, eH, eL, eF, lF, tcL_len, ← hk]
    refine ⟨q1, q2, q3, q4, fun i hi => by rw [v 250 _ (by decide)]; exact q5 i hi, q6, q7, q8, okl, fun _ => ⟨⟨k1, k2⟩, ⟨by omega, by omega⟩, by omega, ?_⟩, fun z => absurd h5 z⟩
    rw [show (yv Y 264 t + 30).toNat = f + 30 from by omega]
    exact sc'
  · rw [if_neg c]
    obtain ⟨u, hu⟩ : ∃ u : Int, u = if yv Y 263 t = 0 then 2 else 3 := ⟨_, rfl⟩
    have hu2 : (yv Y 263 t = 0 ∧ u = 2) ∨ (yv Y 263 t ≠ 0 ∧ u = 3) := by
      rw [hu]
      by_cases c : yv Y 263 t = 0
      · rw [if_pos c]; exact Or.inl ⟨c, rfl⟩
      · rw [if_neg c]; exact Or.inr ⟨c, rfl⟩
    rw [← hu]
    obtain ⟨L', hL'⟩ : ∃ L', L' = sftL (tcL f tl (qL (yq Y) t)) (tcF f tl (qL (yq Y) t) (qF (yq Y) t)) := ⟨_, rfl⟩
    rw [← hL']
    by_cases d : L' = [] ∨ yv Y 247 t ≤ u
    · rw [if_pos d]
      left
      exact clS_0
    · rw [if_neg d]
      right
      obtain ⟨Y1, hY⟩ : ∃ Y1, Y1 = (yw Y, yl Y, st2 (st2 (ys Y) 263 t u) 264 t 0, lstQ t L' [] (yq Y)) := ⟨_, rfl⟩
      have v : ∀ a i, a ≠ 263 → a ≠ 264 → yv Y1 a i = yv Y a i := fun a i z1 z2 => by
        rw [hY]
        show vI (st2 (st2 (ys Y) 263 t u) 264 t 0) a i = _
        rw [vI_ne (by omega), vI_ne (by omega)]
      have v63 : yv Y1 263 t = u := by
        rw [hY]
        show vI (st2 (st2 (ys Y) 263 t u) 264 t 0) 263 t = _
        rw [vI_ne (by omega), vI_eq rfl, w32s (by omega)]
      have v64 : yv Y1 264 t = 0 := by
        rw [hY]
        show vI (st2 (st2 (ys Y) 263 t u) 264 t 0) 264 t = _
        rw [vI_eq rfl]; rfl
      have vp : yp Y1 t = yp Y t := by unfold yp; rw [show vI (ys Y1) 228 t = vI (ys Y) 228 t from v 228 t (by decide) (by decide)]
      have eL : qL (yq Y1) t = L' := by rw [hY]; exact fup_eq
      have eF : qF (yq Y1) t = [] := by rw [hY]; exact fup_eq
      have eB : qB (yq Y1) = qB (yq Y) := by rw [hY]; rfl
      have eO : qO (yq Y1) = qO (yq Y) := by rw [hY]; rfl
      have eH : qH (yq Y1) = qH (yq Y) := by rw [hY]; rfl
      have ln : 0 < L'.length := List.length_pos_iff.mpr (fun z => d (Or.inl z))
      have n7 : u < yv Y 247 t := by
        by_cases e : yv Y 247 t ≤ u
        · exact absurd (Or.inr e) d
        · omega
      have z0 : yv Y 263 t = 0 ∧ u = 2 := by omega
      rw [← hY]
      refine ⟨?_, v _ _ (by decide) (by decide), by rw [v _ _ (by decide) (by decide)]; exact h5, Or.inr ⟨z0.1, by rw [v63]; exact z0.2, v64, by omega⟩⟩
      unfold qOK
      rw [v 247 _ (by decide) (by decide), v 254 _ (by decide) (by decide), v 230 _ (by decide) (by decide), v 256 _ (by decide) (by decide), v63, v64, vp, eB, eO, eH, eL, eF]
      refine ⟨q1, q2, q3, q4, fun i hi => by rw [v 250 _ (by decide) (by decide)]; exact q5 i hi, q6, q7, q8, by rw [hL']; exact okL_sft okl, fun _ => ⟨⟨by omega, n7⟩, ⟨by omega, by omega⟩, rfl, ?_⟩, fun z => absurd h5 z⟩
      intro i hi
      have hz := getD_mem hi (d := it0)
      have hz2 : L'.getD i it0 ∈ tcL f tl (qL (yq Y) t) := by
        have := (sft_sub (L := tcL f tl (qL (yq Y) t)) (F := tcF f tl (qL (yq Y) t) (qF (yq Y) t))).subset
        rw [← hL'] at this
        exact this hz
      have := sc_all hk0.1 sc' _ hz2
      rw [z0.2]
      rw [z0.1] at hk
      have hk2 : k = 0 := by rw [hk]; rfl
      rw [if_neg (show ¬ i < (0 : Int).toNat from by omega), if_neg (show ¬ (2 : Int) = 0 from by decide)]
      omega
end WCHECK
