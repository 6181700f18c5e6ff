/-! a CHECK comes -/
theorem chk1_od {tl : List It} {y : It} : od (chk1 tl y) = od y := by
  unfold chk1
  cases tl.find? (fun z => decide (od z = od y)) with
  | none => rfl
  | some z => rfl
theorem chk1_w {tl : List It} {y : It} (h : ∀ z, z ∈ tl → 1 ≤ z.2.2 ∧ z.2.2 ≤ 15) : y.2.2 ≤ (chk1 tl y).2.2 ∧ (chk1 tl y).2.2 ≤ y.2.2 + 15 := by
  unfold chk1
  cases hf : tl.find? (fun z => decide (od z = od y)) with
  | none => dsimp only; omega
  | some z =>
    have := h z (List.mem_of_find?_eq_some hf)
    dsimp only
    omega
theorem chk_s {tl : List It} {y : It} {k : Nat} (hk : k < tl.length) : chkB (tl.take (k + 1)) y = (chkB (tl.take k) y || decide (od (tl.getD k it0) = od y)) ∧ chk1 (tl.take (k + 1)) y = if chkB (tl.take k) y = true then chk1 (tl.take k) y else if od (tl.getD k it0) = od y then (y.1, y.2.1, y.2.2 + (tl.getD k it0).2.2) else y := by
  rw [take_s (d := it0) hk]
  constructor
  · unfold chkB
    rw [List.map_append, Bool.eq_iff_iff]
    simp only [decide_eq_true_eq, Bool.or_eq_true, List.mem_append, List.map_cons, List.map_nil, List.mem_cons, List.not_mem_nil, or_false]
    constructor
    · rintro (h | h)
      · exact Or.inl h
      · exact Or.inr h.symm
    · rintro (h | h)
      · exact Or.inl h
      · exact Or.inr h.symm
  · unfold chk1 chkB
    rw [List.find?_append]
    cases hf : (tl.take k).find? (fun z => decide (od z = od y)) with
    | some z =>
      have h1 := List.mem_of_find?_eq_some hf
      have h2 := List.find?_some hf
      rw [if_pos (by simp only [decide_eq_true_eq]; exact List.mem_map.mpr ⟨z, h1, by simpa using h2⟩)]
      rfl
    | none =>
      have h1 := List.find?_eq_none.mp hf
      rw [if_neg (by
        simp only [decide_eq_true_eq]
        intro q
        obtain ⟨z, z1, z2⟩ := List.mem_map.mp q
        exact h1 z z1 (by simpa using z2))]
      by_cases c : od (tl.getD k it0) = od y
      · rw [if_pos c, Option.none_or, List.find?_cons_of_pos (by simpa using c)]
      · rw [if_neg c, Option.none_or, List.find?_cons_of_neg (by simpa using c)]; rfl
theorem chk_0 {y : It} : chkB [] y = false ∧ chk1 [] y = y := ⟨rfl, rfl⟩
section VCHECK
variable {V W : VV} {m al N p t oth Z : Nat} {own : Nat → Ky} {sd ps sn pu rf : Nat → Int} {tm : Int} {ev tn : Nat → Nat} {Lb : Nat → List Trm} {Y : Ys} {tl : List It} {L : List It}
/-- one of the list is checked -/
theorem v_chkOne {i e : Nat} {y : It} (ht : t < 44) (hi : i < 200) (he : e ≤ 200) (hie : i < e) (hT : TellV V tl) (hok : okM tl) (hy : gLi V (200 * t + i) = y) (hyo : 0 ≤ y.2.2 ∧ y.2.2 ≤ 800) : ∃ U, b_X16_tookChecked_44 (t : Int) (e : Int) (i : Int) V = some (.inl (((i + 1 : Nat) : Int), U)) ∧ gLi U (200 * t + i) = chk1 tl y ∧ vI U 262 (200 * t + i) = b2i (chkB tl y) ∧ ∀ a x, ¬ ((a = 261 ∨ a = 262) ∧ x = 200 * t + i) → U a x = V a x := by
  have l30 := hT.2.1
  have g1 : vI V 259 (200 * t + i) = y.1 := congrArg Prod.fst hy
  have g2 : vI V 260 (200 * t + i) = y.2.1 := congrArg (fun w => w.2.1) hy
  have g3 : vI V 261 (200 * t + i) = y.2.2 := congrArg (fun w => w.2.2) hy
  have w1 : w32 y.1 = y.1 := by rw [← g1]; exact w32_vI
  have w2 : w32 y.2.1 = y.2.1 := by rw [← g2]; exact w32_vI
  have loop : ∀ d k fu (U : VV), d + k = tl.length → d < fu → (∀ a x, ¬ ((a = 261 ∨ a = 262) ∧ x = 200 * t + i) → U a x = V a x) → vI U 261 (200 * t + i) = (chk1 (tl.take k) y).2.2 → vI U 262 (200 * t + i) = b2i (chkB (tl.take k) y) → ∃ U', lpN (fun s : Int × VV => b_X16_tookChecked_69 (t : Int) (e : Int) (i : Int) ((200 * t + i : Nat) : Int) s.1 s.2) fu ((k : Int), U) = some (.inl (((i + 1 : Nat) : Int), U')) ∧ (∀ a x, ¬ ((a = 261 ∨ a = 262) ∧ x = 200 * t + i) → U' a x = V a x) ∧ vI U' 261 (200 * t + i) = (chk1 tl y).2.2 ∧ vI U' 262 (200 * t + i) = b2i (chkB tl y) := by
    intro d
    induction d with
    | zero =>
      intro k fu U hd hf u1 u2 u3
      have ek : k = tl.length := by omega
      subst ek
      rw [List.take_of_length_le (Nat.le_refl _)] at u2 u3
      refine ⟨U, lpN_end (b := fun s : Int × VV => b_X16_tookChecked_69 (t : Int) (e : Int) (i : Int) ((200 * t + i : Nat) : Int) s.1 s.2) (by omega) ?_, u1, u2, u3⟩
      dsimp only
      unfold b_X16_tookChecked_69 j_X16_tookChecked_153
      rw [u1 156 83 (by omega), show w32 (V 156 83) = _ from hT.1, w32_nn (by omega), if_neg (by omega)]
      rfl
    | succ d ih =>
      intro k fu U hd hf u1 u2 u3
      obtain ⟨f, rfl⟩ : ∃ f, fu = f + 1 := ⟨fu - 1, by omega⟩
      obtain ⟨x, hx⟩ : ∃ x, x = tl.getD k it0 := ⟨_, rfl⟩
      have uv : ∀ a z, ¬ ((a = 261 ∨ a = 262) ∧ z = 200 * t + i) → vI U a z = vI V a z := fun a z q => by show w32 _ = w32 _; rw [u1 a z q]
      obtain ⟨t1, t2, t3⟩ := hT.2.2 k (by omega)
      rw [← hx] at t1 t2 t3
      obtain ⟨s1, s2⟩ := chk_s (tl := tl) (y := y) (k := k) (by omega)
      rw [← hx] at s1 s2
      have xo := hok.2 x (by rw [hx]; exact getD_mem (by omega))
      have x1 : w32 x.1 = x.1 := by rw [← t1]; exact w32_vI
      have x2 : w32 x.2.1 = x.2.1 := by rw [← t2]; exact w32_vI
      have nxt : ∀ U1, b_X16_tookChecked_69 (t : Int) (e : Int) (i : Int) ((200 * t + i : Nat) : Int) (k : Int) U = some (.inl (((k + 1 : Nat) : Int), U1)) → (∀ a x, ¬ ((a = 261 ∨ a = 262) ∧ x = 200 * t + i) → U1 a x = V a x) → vI U1 261 (200 * t + i) = (chk1 (tl.take (k + 1)) y).2.2 → vI U1 262 (200 * t + i) = b2i (chkB (tl.take (k + 1)) y) → ∃ U', lpN (fun s : Int × VV => b_X16_tookChecked_69 (t : Int) (e : Int) (i : Int) ((200 * t + i : Nat) : Int) s.1 s.2) (f + 1) ((k : Int), U) = some (.inl (((i + 1 : Nat) : Int), U')) ∧ (∀ a x, ¬ ((a = 261 ∨ a = 262) ∧ x = 200 * t + i) → U' a x = V a x) ∧ vI U' 261 (200 * t + i) = (chk1 tl y).2.2 ∧ vI U' 262 (200 * t + i) = b2i (chkB tl y) := fun U1 st r1 r2 r3 => by
        rw [lpN_cnt (b := fun s : Int × VV => b_X16_tookChecked_69 (t : Int) (e : Int) (i : Int) ((200 * t + i : Nat) : Int) s.1 s.2) (s := ((k : Int), U)) st]
        exact ih (k + 1) f U1 (by omega) (by omega) r1 r2 r3
      have run : b_X16_tookChecked_69 (t : Int) (e : Int) (i : Int) ((200 * t + i : Nat) : Int) (k : Int) U = if chkB (tl.take k) y = true then cnt ((k : Int) + 1, U) else if od x = od y then cnt ((k : Int) + 1, st2 (st2 U 262 (200 * t + i) 1) 261 (200 * t + i) (vI U 261 (200 * t + i) + x.2.2)) else cnt ((k : Int) + 1, U) := by
        unfold b_X16_tookChecked_69 j_X16_tookChecked_147
        rw [u1 156 83 (by omega), show w32 (V 156 83) = _ from hT.1, w32_nn (by omega), w32_nn (by omega), if_pos (by omega), l2_n (by omega) (by omega), u3, Option.bind_some, w32_b2i]
        cases chkB (tl.take k) y with
        | true => rw [if_neg (by decide), if_pos rfl]
        | false =>
          rw [if_pos (by decide), if_neg (by decide), l2_n (by omega) (by omega), uv 259 _ (by omega), g1, Option.bind_some, l2_n (by omega) (by omega), uv 221 k (by omega), t1, Option.bind_some, w1, x1]
          by_cases c1 : y.1 = x.1
          · rw [if_pos c1, l2_n (by omega) (by omega), uv 260 _ (by omega), g2, Option.bind_some, l2_n (by omega) (by omega), uv 222 k (by omega), t2, Option.bind_some, w2, x2]
            by_cases c2 : y.2.1 = x.2.1
            · rw [if_pos c2, if_pos (show od x = od y from odv.mpr ⟨c1.symm, c2.symm⟩), s2z_n (by omega) (by omega) (Or.inr rfl), Option.bind_some, l2_n (by omega) (by omega), vI_ne (by omega), Option.bind_some, l2_n (by omega) (by omega), vI_ne (by omega), uv 223 k (by omega), t3, Option.bind_some, s2_n (by omega) (by omega), Option.bind_some]
            · rw [if_neg c2, if_neg (show ¬ od x = od y from fun z => c2 (odv.mp z).2.symm)]
          · rw [if_neg c1, if_neg (show ¬ od x = od y from fun z => c1 (odv.mp z).1.symm)]
      by_cases b : chkB (tl.take k) y = true
      · rw [if_pos b] at run s2
        refine nxt U run u1 (by rw [s2]; exact u2) (by rw [s1, b]; rw [b] at u3; exact u3)
      · rw [if_neg b] at run s2
        have bf : chkB (tl.take k) y = false := by simpa using b
        have c0 : chk1 (tl.take k) y = y := by
          unfold chk1
          cases hf : (tl.take k).find? (fun z => decide (od z = od y)) with
          | none => rfl
          | some z =>
            refine absurd ?_ b
            unfold chkB
            simp only [decide_eq_true_eq]
            exact List.mem_map.mpr ⟨z, List.mem_of_find?_eq_some hf, by have := List.find?_some hf; simpa using this⟩
        rw [c0] at u2
        by_cases c : od x = od y
        · rw [if_pos c] at run s2
          refine nxt _ run (fun a z q => by rw [st2_ne (by omega), st2_ne (by omega)]; exact u1 a z q) ?_ ?_
          · rw [vI_eq rfl, s2, u2, w32_id (by omega) (by omega)]
          · rw [vI_ne (by omega), vI_eq rfl, s1, bf, decide_eq_true c]; rfl
        · rw [if_neg c] at run s2
          refine nxt U run u1 (by rw [s2]; exact u2) (by rw [s1, bf, decide_eq_false c]; rw [bf] at u3; exact u3)
  obtain ⟨U, a1, a2, a3, a4⟩ := loop tl.length 0 FU (st2 V 262 (200 * t + i) 0) (by omega) (by unfold FU; omega) (fun a x q => st2_ne (by omega)) (by rw [vI_ne (by omega), g3, List.take_zero]; rfl) (by rw [vI_eq rfl, List.take_zero]; rfl)
  refine ⟨U, ?_, ?_, a4, a2⟩
  · unfold b_X16_tookChecked_44 l_X16_tookChecked_69
    rw [w32_nn (by omega), w32_nn (by omega), if_pos (by omega), c200m, cadd, s2z_n (by omega) (by omega) (Or.inl rfl), Option.bind_some]
    exact a1
  · have o := chk1_od (tl := tl) (y := y)
    obtain ⟨o1, o2⟩ := (odv (a := y.1) (b := y.2.1)).mp o
    show (vI U 259 _, vI U 260 _, vI U 261 _) = _
    have e1 : vI U 259 (200 * t + i) = y.1 := by rw [← g1]; show w32 _ = w32 _; rw [a2 259 _ (by omega)]
    have e2 : vI U 260 (200 * t + i) = y.2.1 := by rw [← g2]; show w32 _ = w32 _; rw [a2 260 _ (by omega)]
    rw [e1, e2, a3, ← o1, ← o2]
theorem tcL_len {f : Nat} : (tcL f tl L).length = L.length := by
  unfold tcL
  rw [List.length_append, List.length_append, List.length_map, List.length_take, List.length_take, List.length_drop, List.length_drop, List.length_drop]
  omega
theorem tcL_get {f i : Nat} (hi : i < L.length) : (tcL f tl L).getD i it0 = if f ≤ i ∧ i < f + 30 then chk1 tl (L.getD i it0) else L.getD i it0 := by
  unfold tcL
  rw [List.getD_eq_getElem?_getD, List.getElem?_append, List.length_append, List.length_map, List.length_take, List.length_take, List.length_drop, List.getElem?_append, List.length_take]
  by_cases c1 : i < f
  · rw [if_pos (by omega), if_pos (by omega), List.getElem?_take_of_lt c1, if_neg (by omega), List.getD_eq_getElem?_getD]
  · by_cases c2 : i < f + 30
    · rw [if_pos (by omega), if_neg (by omega), if_pos (by omega), List.getElem?_map, List.getElem?_take_of_lt (by omega), List.getElem?_drop, show f + (i - min f L.length) = i by omega, List.getElem?_eq_getElem hi, gd_get hi]
      rfl
    · rw [if_neg (by omega), if_neg (by omega), List.getElem?_drop, List.getElem?_drop, List.getD_eq_getElem?_getD]
      congr 2
      omega
theorem okL_tc {f : Nat} (h : okL L) (hok : okM tl) (hs : ∀ z, z ∈ L → z.2.2 ≤ 800) : okL (tcL f tl L) := by
  refine ⟨by rw [tcL_len]; exact h.1, ?_, fun z hz => ?_⟩
  · have : (tcL f tl L).map od = L.map od := by
      refine List.ext_getElem (by rw [List.length_map, List.length_map, tcL_len]) (fun i i1 i2 => ?_)
      rw [List.length_map] at i1 i2
      rw [List.getElem_map, List.getElem_map, ← gd_get (d := it0) i1, ← gd_get (d := it0) i2, tcL_get i2]
      split
      · exact chk1_od
      · rfl
    rw [this]; exact h.2.1
  · obtain ⟨i, hi, e⟩ := List.getElem_of_mem hz
    rw [tcL_len] at hi
    rw [← e, ← gd_get (d := it0) (by rw [tcL_len]; exact hi), tcL_get hi]
    have m1 : L.getD i it0 ∈ L := getD_mem hi
    have o := h.2.2 _ m1
    have s := hs _ m1
    split
    · obtain ⟨o1, o2⟩ := (odv (a := (L.getD i it0).1) (b := (L.getD i it0).2.1)).mp (chk1_od (tl := tl) (y := L.getD i it0))
      have := chk1_w (tl := tl) (y := L.getD i it0) (fun z hz => (hok.2 z hz).2.2)
      rw [o1, o2]; omega
    · exact o
theorem sft_s {L : List It} {F : List Bool} {k : Nat} (hk : k < L.length) (hF : k < F.length) : sftL (L.take (k + 1)) (F.take (k + 1)) = sftL (L.take k) (F.take k) ++ if F.getD k false = true then [L.getD k it0] else [] := by
  unfold sftL
  rw [take_s (d := it0) hk, take_s (d := false) hF, List.zip_append (by rw [List.length_take, List.length_take]; omega), List.filter_append, List.map_append]
  congr 1
  cases F.getD k false <;> rfl
theorem sft_len {L : List It} {F : List Bool} : ∀ k, (sftL (L.take k) (F.take k)).length ≤ k := fun k => by
  unfold sftL
  rw [List.length_map]
  refine Nat.le_trans (List.length_filter_le _ _) ?_
  rw [List.length_zip, List.length_take, List.length_take]
  omega
theorem sft_sub {L : List It} {F : List Bool} : (sftL L F).Sublist L := by
  unfold sftL
  have h1 : ((L.zip F).filter (fun z => z.2)).map (fun z => z.1) |>.Sublist ((L.zip F).map (fun z => z.1)) := List.Sublist.map _ List.filter_sublist
  refine h1.trans ?_
  have : ∀ (L : List It) (F : List Bool), ((L.zip F).map (fun z => z.1)).Sublist L := by
    intro L
    induction L with
    | nil => intro F; simp
    | cons a L ih =>
      intro F
      cases F with
      | nil => simp
      | cons b F => rw [List.zip_cons_cons, List.map_cons]; exact (ih F).cons₂ a
  exact this L F
theorem okL_sft {L : List It} {F : List Bool} (h : okL L) : okL (sftL L F) := ⟨Nat.le_trans sft_sub.length_le h.1, h.2.1.sublist (sft_sub.map od), fun z hz => h.2.2 z (sft_sub.subset hz)⟩
/-- a CHECK comes -/
theorem v_tookChecked (h : VY V m al N own sd ps sn pu rf tm Lb oth Z ev tn Y) (ht : t < 44) (htn : tn t < 2000000000) (hr : 0 ≤ yv Y 229 t ∧ yv Y 229 t < 256) (hL : okL (qL (yq Y) t)) (hs : ∀ z, z ∈ qL (yq Y) t → z.2.2 ≤ 800) (h264 : 0 ≤ yv Y 264 t ∧ yv Y 264 t < ((qL (yq Y) t).length : Int)) (hF : ((qF (yq Y) t).length : Int) = yv Y 264 t) (hT : TellV V tl) (hok : okM tl) : ∃ V' tn', f_X16_tookChecked (t : Int) V = some V' ∧ VY V' m al N own sd ps sn pu rf tm Lb oth Z ev tn' (tcY t tl Y) ∧ KpV V V' ∧ TnS t 1 tn tn' := by
  obtain ⟨L, hLd⟩ : ∃ L, L = qL (yq Y) t := ⟨_, rfl⟩
  obtain ⟨F, hFd⟩ : ∃ F, F = qF (yq Y) t := ⟨_, rfl⟩
  obtain ⟨f, hf⟩ : ∃ f : Nat, yv Y 264 t = (f : Int) := ⟨(yv Y 264 t).toNat, by omega⟩
  rw [← hLd] at hL hs h264
  rw [← hFd, hf] at hF
  have lF : F.length = f := by omega
  have l200 := hL.1
  have s5 := h.2.2.2.2.1
  have r264 : vI V 264 t = (f : Int) := by rw [s5 264 t (by unfold scA; omega)]; exact hf
  have LV : LiV V t L := ⟨by rw [hLd]; exact (h.2.2.2.2.2.1.1 t ht).1, fun i hi => by rw [hLd] at hi ⊢; exact qs_gLi h.2.2.2.2.2.1 ht hi⟩
  have FV : ∀ i, i < f → vI V 262 (200 * t + i) = b2i (F.getD i false) := fun i hi => by rw [hFd] at lF ⊢; exact (h.2.2.2.2.2.1.1 t ht).2.2.2.2.1 i (by omega)
  obtain ⟨e, he⟩ : ∃ e, e = min (f + 30) L.length := ⟨_, rfl⟩
  obtain ⟨L1, hL1⟩ : ∃ L1, L1 = tcL f tl L := ⟨_, rfl⟩
  obtain ⟨F1, hF1⟩ : ∃ F1, F1 = tcF f tl L F := ⟨_, rfl⟩
  have ok1 : okL L1 := by rw [hL1]; exact okL_tc hL hok hs
  have lL1 : L1.length = L.length := by rw [hL1, tcL_len]
  have lF1 : F1.length = e := by
    rw [hF1]
    unfold tcF
    rw [List.length_append, List.length_map, List.length_take, List.length_drop]
    omega
  have getF1 : ∀ i, i < e → F1.getD i false = if i < f then F.getD i false else chkB tl (L.getD i it0) := fun i hi => by
    rw [hF1]
    unfold tcF
    rw [List.getD_eq_getElem?_getD, List.getElem?_append]
    by_cases c : i < f
    · rw [if_pos (by omega), if_pos c, List.getD_eq_getElem?_getD]
    · rw [if_neg (by omega), if_neg c, List.getElem?_map, List.getElem?_take_of_lt (by omega), List.getElem?_drop, show f + (i - F.length) = i by omega, List.getElem?_eq_getElem (by omega), gd_get (by omega)]
      rfl
  -- the chunk
  have loop1 : ∀ d k fu (U : VV), d + k = e → f ≤ k → d < fu → (∀ a x, ¬ ((a = 261 ∨ a = 262) ∧ 200 * t + f ≤ x ∧ x < 200 * t + e) → U a x = V a x) → (∀ x, f ≤ x → x < k → gLi U (200 * t + x) = chk1 tl (L.getD x it0) ∧ vI U 262 (200 * t + x) = b2i (chkB tl (L.getD x it0))) → (∀ x, k ≤ x → x < L.length → gLi U (200 * t + x) = L.getD x it0) → ∃ U', lpN (fun s : Int × VV => b_X16_tookChecked_44 (t : Int) (e : Int) s.1 s.2) fu ((k : Int), U) = j_X16_tookChecked_159 (t : Int) (e : Int) U' ∧ (∀ a x, ¬ ((a = 261 ∨ a = 262) ∧ 200 * t + f ≤ x ∧ x < 200 * t + e) → U' a x = V a x) ∧ (∀ x, f ≤ x → x < e → gLi U' (200 * t + x) = chk1 tl (L.getD x it0) ∧ vI U' 262 (200 * t + x) = b2i (chkB tl (L.getD x it0))) := by
    intro d
    induction d with
    | zero =>
      intro k fu U hd hk hfu u1 u2 u3
      have ek : k = e := by omega
      subst ek
      refine ⟨U, lpN_end (b := fun s : Int × VV => b_X16_tookChecked_44 (t : Int) (k : Int) s.1 s.2) (by omega) ?_, u1, u2⟩
      dsimp only
      unfold b_X16_tookChecked_44
      rw [if_neg (by omega)]
    | succ d ih =>
      intro k fu U hd hk hfu u1 u2 u3
      obtain ⟨g, rfl⟩ : ∃ g, fu = g + 1 := ⟨fu - 1, by omega⟩
      have TU : TellV U tl := ⟨by show w32 _ = _; rw [u1 156 83 (by omega)]; exact hT.1, hT.2.1, fun i hi => by
        obtain ⟨q1, q2, q3⟩ := hT.2.2 i hi
        exact ⟨by show w32 _ = _; rw [u1 221 i (by omega)]; exact q1, by show w32 _ = _; rw [u1 222 i (by omega)]; exact q2, by show w32 _ = _; rw [u1 223 i (by omega)]; exact q3⟩⟩
      have oy := hL.2.2 _ (getD_mem (d := it0) (show k < L.length by omega))
      obtain ⟨U1, a1, a2, a3, a4⟩ := v_chkOne (e := e) ht (show k < 200 by omega) (by omega) (by omega) TU hok (u3 k (Nat.le_refl _) (by omega)) ⟨oy.2.2.1, hs _ (getD_mem (by omega))⟩
      rw [lpN_cnt (b := fun s : Int × VV => b_X16_tookChecked_44 (t : Int) (e : Int) s.1 s.2) (s := ((k : Int), U)) a1]
      have gne : ∀ x, x ≠ k → gLi U1 (200 * t + x) = gLi U (200 * t + x) := fun x hx => by
        show (w32 _, w32 _, w32 _) = (w32 _, w32 _, w32 _)
        rw [a4 259 _ (by omega), a4 260 _ (by omega), a4 261 _ (by omega)]
      refine ih (k + 1) g U1 (by omega) (by omega) (by omega) (fun a x q => by rw [a4 a x (by omega)]; exact u1 a x q) (fun x h1 h2 => ?_) (fun x h1 h2 => by rw [gne x (by omega)]; exact u3 x (by omega) h2)
      by_cases c : x = k
      · rw [c]; exact ⟨a2, a3⟩
      · obtain ⟨r1, r2⟩ := u2 x h1 (by omega)
        exact ⟨by rw [gne x c]; exact r1, by show w32 _ = _; rw [a4 262 _ (by omega)]; exact r2⟩
  obtain ⟨U, a1, a2, a3⟩ := loop1 (e - f) f FU V (by omega) (Nat.le_refl _) (by unfold FU; omega) (fun _ _ _ => rfl) (fun x h1 h2 => by omega) (fun x h1 h2 => LV.2 x h2)
  have gU : ∀ i, i < L.length → gLi U (200 * t + i) = L1.getD i it0 := fun i hi => by
    rw [hL1, tcL_get hi]
    by_cases c : f ≤ i ∧ i < f + 30
    · rw [if_pos c]; exact (a3 i c.1 (by omega)).1
    · rw [if_neg c, ← LV.2 i hi]
      show (w32 _, w32 _, w32 _) = (w32 _, w32 _, w32 _)
      rw [a2 259 _ (by omega), a2 260 _ (by omega), a2 261 _ (by omega)]
  have fU : ∀ i, i < e → vI U 262 (200 * t + i) = b2i (F1.getD i false) := fun i hi => by
    rw [getF1 i hi]
    by_cases c : i < f
    · rw [if_pos c, ← FV i c]; show w32 _ = w32 _; rw [a2 262 _ (by omega)]
    · rw [if_neg c]; exact (a3 i (by omega) hi).2
  have u258 : vI U 258 t = (L.length : Int) := by show w32 _ = _; rw [a2 258 t (by omega)]; exact LV.1
  have run1 : f_X16_tookChecked (t : Int) V = j_X16_tookChecked_159 (t : Int) (e : Int) U := by
    have r36 : j_X16_tookChecked_36 (t : Int) (e : Int) V = j_X16_tookChecked_159 (t : Int) (e : Int) U := by
      unfold j_X16_tookChecked_36 l_X16_tookChecked_44
      rw [l2_n ht (by omega), r264, Option.bind_some]
      exact a1
    unfold f_X16_tookChecked
    rw [l2_n ht (by omega), r264, Option.bind_some, l2_n ht (by omega), LV.1, Option.bind_some, cadd30, w32_nn (by omega), w32_nn (by omega), Option.bind_some, Option.bind_some, cadd30, ← r36]
    by_cases c : f + 30 < L.length
    · rw [if_pos (by omega), he, Nat.min_eq_left (by omega)]
    · rw [if_neg (by omega), he, Nat.min_eq_right (by omega)]
  obtain ⟨V2, hV2⟩ : ∃ V2, V2 = st2 U 264 t (e : Int) := ⟨_, rfl⟩
  have v2raw : ∀ a x, ¬ ((a = 261 ∨ a = 262) ∧ 200 * t + f ≤ x ∧ x < 200 * t + e) → ¬ (a = 264 ∧ x = t) → V2 a x = V a x := fun a x z1 z2 => by rw [hV2, st2_ne z2]; exact a2 a x z1
  have kv2 : KpV V V2 := KpV_ag (fun a i z => v2raw a i (by unfold kpA at z; omega) (by unfold kpA at z; omega))
  have f264 : (yv Y 264 t).toNat = f := by omega
  rw [run1]
  unfold j_X16_tookChecked_159 tcY
  rw [s2_n ht (by omega), Option.bind_some, ← hV2, l2_n ht (by omega), show vI V2 258 t = (L.length : Int) by rw [hV2, vI_ne (by omega)]; exact u258, Option.bind_some, w32_nn (by omega), w32_nn (by omega), f264, ← hLd, ← hFd, ← hL1, ← hF1]
  by_cases c : f + 30 < L.length
  · have e30 : e = f + 30 := by omega
    rw [if_pos (by omega), if_pos c]
    refine ⟨V2, tn, rfl, ?_, kv2, TnS.refl⟩
    refine vy_list h ht ok1.1 (fun a i z1 z2 z3 z4 => v2raw a i (by omega) (fun q => z3 (by unfold scA; omega))) (fun a i z => ?_) (fun a i z1 z2 z3 z4 => vI_ne (by omega)) (by rw [hV2, vI_ne (by omega), u258, lL1]) (fun i hi => ?_) F1 (by omega) (fun i hi => by rw [hV2, vI_ne (by omega)]; exact fU i (by omega)) (fun a i z z1 z2 z3 z4 => v2raw a i (by unfold scA at z; omega) (by omega))
    · rw [vI_st2]
      by_cases c2 : a = 264 ∧ i = t
      · rw [if_pos c2, c2.1, c2.2, hV2, vI_eq rfl, hf, e30]; rfl
      · rw [if_neg c2]
        show w32 _ = _
        rw [v2raw a i (by unfold scA at z; omega) c2]
        exact s5 a i z
    · rw [lL1] at hi
      rw [← gU i hi, hV2]
      show (vI _ _ _, vI _ _ _, vI _ _ _) = _
      rw [vI_ne (by omega), vI_ne (by omega), vI_ne (by omega)]
      rfl
  · have eL : e = L.length := by omega
    rw [if_neg (by omega), if_neg c]
    -- those that stay
    have g2 : ∀ i, i < L.length → gLi V2 (200 * t + i) = L1.getD i it0 := fun i hi => by
      rw [← gU i hi, hV2]
      show (vI _ _ _, vI _ _ _, vI _ _ _) = _
      rw [vI_ne (by omega), vI_ne (by omega), vI_ne (by omega)]
      rfl
    have loop2 : ∀ d k fu (W : VV), d + k = L.length → d < fu → (∀ a x, ¬ ((a = 259 ∨ a = 260 ∨ a = 261) ∧ 200 * t ≤ x ∧ x < 200 * t + 200) → W a x = V2 a x) → (∀ i, i < (sftL (L1.take k) (F1.take k)).length → gLi W (200 * t + i) = (sftL (L1.take k) (F1.take k)).getD i it0) → (∀ i, k ≤ i → i < L.length → gLi W (200 * t + i) = L1.getD i it0) → ∃ W', lpN (fun s : Int × Int × VV => b_X16_tookChecked_182 (t : Int) s.1 s.2.1 s.2.2) fu ((((sftL (L1.take k) (F1.take k)).length : Nat) : Int), (k : Int), W) = j_X16_tookChecked_273 (t : Int) (((sftL L1 F1).length : Nat) : Int) W' ∧ (∀ a x, ¬ ((a = 259 ∨ a = 260 ∨ a = 261) ∧ 200 * t ≤ x ∧ x < 200 * t + 200) → W' a x = V2 a x) ∧ ∀ i, i < (sftL L1 F1).length → gLi W' (200 * t + i) = (sftL L1 F1).getD i it0 := by
      intro d
      induction d with
      | zero =>
        intro k fu W hd hfu u1 u2 u3
        have ek : k = L.length := by omega
        subst ek
        rw [List.take_of_length_le (by omega), List.take_of_length_le (by omega)] at u2 ⊢
        refine ⟨W, lpN_end (b := fun s : Int × Int × VV => b_X16_tookChecked_182 (t : Int) s.1 s.2.1 s.2.2) (by omega) ?_, u1, u2⟩
        dsimp only
        unfold b_X16_tookChecked_182
        rw [l2_n ht (by omega), show vI W 258 t = (L.length : Int) by show w32 _ = _; rw [u1 258 t (by omega), hV2, st2_ne (by omega)]; exact u258, Option.bind_some, w32_nn (by omega), if_neg (by omega)]
      | succ d ih =>
        intro k fu W hd hfu u1 u2 u3
        obtain ⟨g, rfl⟩ : ∃ g, fu = g + 1 := ⟨fu - 1, by omega⟩
        obtain ⟨n0, hn0⟩ : ∃ n0, n0 = (sftL (L1.take k) (F1.take k)).length := ⟨_, rfl⟩
        have n0k : n0 ≤ k := by rw [hn0]; exact sft_len k
        have ss := sft_s (L := L1) (F := F1) (k := k) (by omega) (by omega)
        have w262 : vI W 262 (200 * t + k) = b2i (F1.getD k false) := by
          show w32 _ = _
          rw [u1 262 _ (by omega), hV2, st2_ne (by omega)]
          exact fU k (by omega)
        have y := u3 k (Nat.le_refl _) (by omega)
        obtain ⟨z, hz⟩ : ∃ z, z = L1.getD k it0 := ⟨_, rfl⟩
        rw [← hz] at y
        have y1 : vI W 259 (200 * t + k) = z.1 := congrArg Prod.fst y
        have y2 : vI W 260 (200 * t + k) = z.2.1 := congrArg (fun w => w.2.1) y
        have y3 : vI W 261 (200 * t + k) = z.2.2 := congrArg (fun w => w.2.2) y
        rw [← hn0]
        rw [← hn0] at u2
        have run : b_X16_tookChecked_182 (t : Int) (n0 : Int) (k : Int) W = if F1.getD k false = true then some (.inl ((n0 : Int) + 1, (k : Int) + 1, st2 (st2 (st2 W 259 (200 * t + n0) z.1) 260 (200 * t + n0) z.2.1) 261 (200 * t + n0) z.2.2)) else some (.inl ((n0 : Int), (k : Int) + 1, W)) := by
          unfold b_X16_tookChecked_182 j_X16_tookChecked_267
          rw [l2_n ht (by omega), show vI W 258 t = (L.length : Int) by show w32 _ = _; rw [u1 258 t (by omega), hV2, st2_ne (by omega)]; exact u258, Option.bind_some, w32_nn (by omega), w32_nn (by omega), if_pos (by omega), c200m, cadd, l2_n (by omega) (by omega), w262, Option.bind_some, w32_b2i]
          cases F1.getD k false with
          | false => rw [if_pos (by decide), if_neg (by decide)]; rfl
          | true =>
            rw [if_neg (by decide), if_pos rfl, l2_n (by omega) (by omega), y1, Option.bind_some, cadd, s2_n (by omega) (by omega), Option.bind_some, l2_n (by omega) (by omega), vI_ne (by omega), y2, Option.bind_some, s2_n (by omega) (by omega), Option.bind_some, l2_n (by omega) (by omega), vI_ne (by omega), vI_ne (by omega), y3, Option.bind_some, s2_n (by omega) (by omega), Option.bind_some]
            rfl
        by_cases b : F1.getD k false = true
        · rw [if_pos b] at run ss
          rw [lpN_cnt (b := fun s : Int × Int × VV => b_X16_tookChecked_182 (t : Int) s.1 s.2.1 s.2.2) (s := ((n0 : Int), (k : Int), W)) run]
          have l1 : (sftL (L1.take (k + 1)) (F1.take (k + 1))).length = n0 + 1 := by rw [ss, List.length_append, ← hn0]; rfl
          have zw : w32 z.1 = z.1 ∧ w32 z.2.1 = z.2.1 ∧ w32 z.2.2 = z.2.2 := by rw [← y1, ← y2, ← y3]; exact ⟨w32_vI, w32_vI, w32_vI⟩
          have := ih (k + 1) g (st2 (st2 (st2 W 259 (200 * t + n0) z.1) 260 (200 * t + n0) z.2.1) 261 (200 * t + n0) z.2.2) (by omega) (by omega) (fun a x q => by rw [st2_ne (by omega), st2_ne (by omega), st2_ne (by omega)]; exact u1 a x q) (fun i hi => ?_) (fun i h1 h2 => ?_)
          · rw [l1] at this; exact this
          · rw [l1] at hi
            rw [ss, ← hz, getD_snoc (by rw [← hn0]; exact hi), ← hn0]
            show (vI _ 259 _, vI _ 260 _, vI _ 261 _) = _
            rw [vI_ne (by omega), vI_ne (by omega), vI_st2, vI_ne (by omega), vI_st2, vI_ne (by omega), vI_st2, vI_ne (by omega), vI_ne (by omega)]
            by_cases ci : i = n0
            · rw [if_pos ⟨rfl, by omega⟩, if_pos ⟨rfl, by omega⟩, if_pos ⟨rfl, by omega⟩, if_pos ci, zw.1, zw.2.1, zw.2.2]
            · rw [if_neg (by omega), if_neg (by omega), if_neg (by omega), if_neg ci]
              exact u2 i (by omega)
          · rw [← u3 i (by omega) h2]
            show (vI _ 259 _, vI _ 260 _, vI _ 261 _) = _
            rw [vI_ne (by omega), vI_ne (by omega), vI_ne (by omega), vI_ne (by omega), vI_ne (by omega), vI_ne (by omega), vI_ne (by omega), vI_ne (by omega), vI_ne (by omega)]
            rfl
        · rw [if_neg b] at run ss
          rw [lpN_cnt (b := fun s : Int × Int × VV => b_X16_tookChecked_182 (t : Int) s.1 s.2.1 s.2.2) (s := ((n0 : Int), (k : Int), W)) run]
          rw [List.append_nil] at ss
          have := ih (k + 1) g W (by omega) (by omega) u1 (by rw [ss, ← hn0]; exact u2) (fun i h1 h2 => u3 i (by omega) h2)
          rw [ss, ← hn0] at this
          exact this
    obtain ⟨W, b1, b2, b3⟩ := loop2 L.length 0 FU V2 (by omega) (by unfold FU; omega) (fun _ _ _ => rfl) (fun i hi => absurd hi (by rw [List.take_zero]; exact Nat.not_lt_zero _)) (fun i _ hi => g2 i hi)
    obtain ⟨S, hS⟩ : ∃ S, S = sftL L1 F1 := ⟨_, rfl⟩
    rw [← hS] at b1 b3
    have okS : okL S := by rw [hS]; exact okL_sft ok1
    have sl := okS.1
    obtain ⟨cw, hcw⟩ : ∃ cw : Int, cw = if yv Y 263 t = 0 then 2 else 3 := ⟨_, rfl⟩
    obtain ⟨W4, hW4⟩ : ∃ W4, W4 = st2 (st2 (st2 W 258 t ((S.length : Nat) : Int)) 263 t cw) 264 t 0 := ⟨_, rfl⟩
    have w4raw : ∀ a x, ¬ ((a = 259 ∨ a = 260 ∨ a = 261 ∨ a = 262) ∧ 200 * t ≤ x ∧ x < 200 * t + 200) → ¬ (a = 258 ∧ x = t) → ¬ (a = 263 ∧ x = t) → ¬ (a = 264 ∧ x = t) → W4 a x = V a x := fun a x z1 z2 z3 z4 => by
      rw [hW4, st2_ne z4, st2_ne z3, st2_ne z2, b2 a x (by omega)]
      exact v2raw a x (by omega) z4
    have w263 : vI W 263 t = yv Y 263 t := by
      show w32 _ = _
      rw [b2 263 t (by omega), v2raw 263 t (by omega) (by omega)]
      exact s5 263 t (by unfold scA; omega)
    have cwr : cw = 2 ∨ cw = 3 := by rw [hcw]; split; exact Or.inl rfl; exact Or.inr rfl
    have cw32 : w32 cw = cw := by rcases cwr with z | z <;> rw [z] <;> rfl
    have Y4 : VY W4 m al N own sd ps sn pu rf tm Lb oth Z ev tn (yw Y, yl Y, st2 (st2 (ys Y) 263 t cw) 264 t 0, lstQ t S [] (yq Y)) := by
      refine vy_list h ht okS.1 (fun a i z1 z2 z3 z4 => w4raw a i z1 z2 (fun q => z3 (by unfold scA; omega)) (fun q => z3 (by unfold scA; omega))) (fun a i z => ?_) (fun a i z1 z2 z3 z4 => by rw [vI_ne (by omega), vI_ne (by omega)]) (by rw [hW4, vI_ne (by omega), vI_ne (by omega), vI_eq rfl, w32_nn (by omega)]) (fun i hi => ?_) [] (by decide) (fun i hi => absurd hi (Nat.not_lt_zero _)) (fun a i z z1 z2 z3 z4 => w4raw a i (by unfold scA at z; omega) (by unfold scA at z; omega) (by omega) (by omega))
      · rw [vI_st2, vI_st2]
        by_cases c1 : a = 264 ∧ i = t
        · rw [if_pos c1, c1.1, c1.2, hW4, vI_eq rfl]
        · rw [if_neg c1]
          by_cases c2 : a = 263 ∧ i = t
          · rw [if_pos c2, c2.1, c2.2, hW4, vI_ne (by omega), vI_eq rfl]
          · rw [if_neg c2]
            show w32 _ = _
            rw [w4raw a i (by unfold scA at z; omega) (by unfold scA at z; omega) c2 c1]
            exact s5 a i z
      · rw [← b3 i hi, hW4]
        show (vI _ _ _, vI _ _ _, vI _ _ _) = _
        rw [vI_ne (by omega), vI_ne (by omega), vI_ne (by omega), vI_ne (by omega), vI_ne (by omega), vI_ne (by omega), vI_ne (by omega), vI_ne (by omega), vI_ne (by omega)]
        rfl
    have K4 : KpV V W4 := KpV_ag (fun a i z => w4raw a i (by unfold kpA at z; omega) (by unfold kpA at z; omega) (by unfold kpA at z; omega) (by unfold kpA at z; omega))
    have r247 : vI W4 247 t = yv Y 247 t := by
      show w32 _ = _
      rw [w4raw 247 t (by omega) (by omega) (by omega) (by omega)]
      exact s5 247 t (by unfold scA; omega)
    have fin : ∃ V', j_X16_tookChecked_326 (t : Int) W4 = some V' ∧ VY V' m al N own sd ps sn pu rf tm Lb oth Z ev (fup tn t (tn t + 1)) (rnkY t (yw Y, yl Y, st2 (st2 (ys Y) 263 t cw) 264 t 0, lstQ t S [] (yq Y))) ∧ KpV V V' := by
      obtain ⟨V', e1, e2, e3⟩ := v_ranked Y4 ht htn (by
        have : yv (yw Y, yl Y, st2 (st2 (ys Y) 263 t cw) 264 t 0, lstQ t S [] (yq Y)) 229 t = yv Y 229 t := by
          show vI (st2 (st2 (ys Y) 263 t cw) 264 t 0) 229 t = _
          rw [vI_ne (by omega), vI_ne (by omega)]
        rw [this]; exact hr) (by show okL ((fup (qL (yq Y)) t S) t); rw [fup_eq]; exact okS) (by show (fup (qF (yq Y)) t []) t = []; rw [fup_eq])
      exact ⟨V', by unfold j_X16_tookChecked_326 j_X16_tookChecked_331; rw [e1]; rfl, e2, K4.trans e3⟩
    have run3 : l_X16_tookChecked_182 (t : Int) 0 0 V2 = if S.length = 0 then j_X16_tookChecked_326 (t : Int) W4 else if cw < yv Y 247 t then some W4 else j_X16_tookChecked_326 (t : Int) W4 := by
      unfold l_X16_tookChecked_182
      have b1' := b1
      rw [List.take_zero, List.take_zero] at b1'
      rw [show lpN (fun s : Int × Int × VV => b_X16_tookChecked_182 (t : Int) s.1 s.2.1 s.2.2) FU (0, 0, V2) = _ from b1']
      have r299 : j_X16_tookChecked_299 (t : Int) ((S.length : Nat) : Int) (t : Int) cw (st2 W 258 t ((S.length : Nat) : Int)) = if S.length = 0 then j_X16_tookChecked_326 (t : Int) W4 else if cw < yv Y 247 t then some W4 else j_X16_tookChecked_326 (t : Int) W4 := by
        unfold j_X16_tookChecked_299 j_X16_tookChecked_331
        rw [s2_n ht (by omega), Option.bind_some, s2_n ht (by omega), Option.bind_some, ← hW4, w32_nn (by omega), l2_n ht (by omega), show vI W4 263 t = cw by rw [hW4, vI_ne (by omega), vI_eq rfl, cw32], Option.bind_some, l2_n ht (by omega), r247, Option.bind_some, cw32, show w32 (yv Y 247 t) = yv Y 247 t from w32_vI]
        by_cases c1 : S.length = 0
        · rw [if_pos (by omega), if_pos c1]
        · rw [if_neg (by omega), if_neg c1]
      unfold j_X16_tookChecked_273
      rw [s2_n ht (by omega), Option.bind_some, l2_n ht (by omega), vI_ne (by omega), w263, Option.bind_some, show w32 (yv Y 263 t) = yv Y 263 t from w32_vI, ← r299, hcw]
      split <;> rfl
    rw [run3, ← hS, ← hcw]
    by_cases c1 : S.length = 0
    · rw [if_pos c1, if_pos (Or.inl (List.length_eq_zero_iff.mp c1))]
      obtain ⟨V', e1, e2, e3⟩ := fin
      exact ⟨V', _, e1, e2, e3, TnS.up⟩
    · rw [if_neg c1]
      by_cases c2 : cw < yv Y 247 t
      · rw [if_pos c2, if_neg (fun q => by rcases q with q | q; exact c1 (by rw [q]; rfl); omega)]
        exact ⟨W4, tn, rfl, Y4, K4, TnS.refl⟩
      · rw [if_neg c2, if_pos (Or.inr (by omega))]
        obtain ⟨V', e1, e2, e3⟩ := fin
        exact ⟨V', _, e1, e2, e3, TnS.up⟩
end VCHECK
