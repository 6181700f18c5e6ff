section VMATCH
variable {V W : VV} {m al N p t oth Z : Nat} {own : Nat → Ky} {sd ps sn pu rf : Nat → Int} {tm : Int} {ev tn : Nat → Nat} {Lb : Nat → List Trm} {Y : Ys} {tl : List It} {more : Bool} {L : List It}
/-- a list in its slots -/
def LiV (V : VV) (t : Nat) (L : List It) : Prop := vI V 258 t = (L.length : Int) ∧ ∀ i, i < L.length → gLi V (200 * t + i) = L.getD i it0
def PLi (t a i : Nat) : Prop := ((a = 259 ∨ a = 260 ∨ a = 261) ∧ 200 * t ≤ i ∧ i < 200 * t + 200) ∨ (a = 258 ∧ i = t)
theorem odv {x : It} {a b : Int} : od x = (a, b) ↔ x.1 = a ∧ x.2.1 = b := by
  unfold od
  constructor
  · intro h; exact ⟨congrArg Prod.fst h, congrArg Prod.snd h⟩
  · intro h; rw [h.1, h.2]
/-- one that was told comes to the list, unless it is there -/
theorem v_addOne {i : Nat} {x : It} (ht : t < 44) (hL : okL L) (hV : LiV V t L) (hi : i < 30) (h1 : vI V 221 i = x.1) (h2 : vI V 222 i = x.2.1) (h3 : vI V 223 i = x.2.2) : ∃ U, b_X16_tookMatches_15 (t : Int) (i : Int) V = (if w32 (i : Int) < w32 (w32 (V 156 83)) then some (.inl (((i + 1 : Nat) : Int), U)) else xit (j_X16_tookMatches_186 (t : Int) V)) ∧ LiV U t (addL L x) ∧ ∀ a x, ¬ PLi t a x → U a x = V a x := by
  have l200 := hL.1
  obtain ⟨f, hf⟩ : ∃ f : Nat → Bool, f = fun k => decide (L.length = 200) || (L.take k).any (fun y => decide (od y = od x)) := ⟨_, rfl⟩
  have lp := lp_seq (b := fun s : Int × Int => b_X16_tookMatches_48 (t : Int) (i : Int) s.1 s.2 V) (x := j_X16_tookMatches_113 (t : Int) (i : Int) (b2i (f L.length)) V) (fun k => (b2i (f k), ((200 * t + k : Nat) : Int))) L.length
    (fun k hk => by
      show b_X16_tookMatches_48 (t : Int) (i : Int) (b2i (f k)) ((200 * t + k : Nat) : Int) V = some (.inl (b2i (f (k + 1)), ((200 * t + (k + 1) : Nat) : Int)))
      have g := hV.2 k hk
      have g1 : vI V 259 (200 * t + k) = (L.getD k it0).1 := congrArg Prod.fst g
      have g2 : vI V 260 (200 * t + k) = (L.getD k it0).2.1 := congrArg (fun w => w.2.1) g
      have e : f (k + 1) = (f k || decide (od (L.getD k it0) = od x)) := by
        rw [hf]
        dsimp only
        rw [take_s (d := it0) hk, List.any_append]
        simp only [List.any_cons, List.any_nil, Bool.or_false, Bool.or_assoc]
      rw [e]
      unfold b_X16_tookMatches_48 j_X16_tookMatches_101 j_X16_tookMatches_105 j_X16_tookMatches_106
      rw [l2_n ht (by omega), hV.1, Option.bind_some, c200m, cadd, w32_nn (by omega), w32_nn (by omega), if_pos (by omega), w32_b2i]
      cases f k with
      | true => rw [if_neg (by decide)]; rfl
      | false =>
        have w1 : w32 (L.getD k it0).1 = (L.getD k it0).1 := by rw [← g1]; exact w32_vI
        have w2 : w32 (L.getD k it0).2.1 = (L.getD k it0).2.1 := by rw [← g2]; exact w32_vI
        have w3 : w32 x.1 = x.1 := by rw [← h1]; exact w32_vI
        have w4 : w32 x.2.1 = x.2.1 := by rw [← h2]; exact w32_vI
        rw [if_pos (by decide), l2_n (by omega) (by omega), g1, Option.bind_some, l2_n hi (by omega), h1, Option.bind_some, w1, w3]
        by_cases c1 : (L.getD k it0).1 = x.1
        · rw [if_pos c1, l2_n (by omega) (by omega), g2, Option.bind_some, l2_n hi (by omega), h2, Option.bind_some, w2, w4]
          by_cases c2 : (L.getD k it0).2.1 = x.2.1
          · rw [if_pos c2, decide_eq_true (show od (L.getD k it0) = od x from odv.mpr ⟨c1, c2⟩)]; rfl
          · rw [if_neg c2, decide_eq_false (show ¬ od (L.getD k it0) = od x from fun z => c2 (odv.mp z).2)]; rfl
        · rw [if_neg c1, decide_eq_false (show ¬ od (L.getD k it0) = od x from fun z => c1 (odv.mp z).1)]; rfl)
    (by
      show b_X16_tookMatches_48 (t : Int) (i : Int) (b2i (f L.length)) ((200 * t + L.length : Nat) : Int) V = _
      unfold b_X16_tookMatches_48
      rw [l2_n ht (by omega), hV.1, Option.bind_some, c200m, cadd, w32_nn (by omega), if_neg (by omega)])
  have lp0 := lp FU 0 (by omega) (by unfold FU; omega)
  have f0 : f 0 = decide (L.length = 200) := by rw [hf]; dsimp only; rw [List.take_zero, List.any_nil, Bool.or_false]
  have fe : f L.length = true ↔ (L.length = 200 ∨ od x ∈ L.map od) := by
    rw [hf]
    dsimp only
    rw [List.take_of_length_le (Nat.le_refl _), Bool.or_eq_true, decide_eq_true_eq, List.any_eq_true, List.mem_map]
    constructor
    · rintro (h | ⟨y, hy, e⟩)
      · exact Or.inl h
      · exact Or.inr ⟨y, hy, by simpa using e⟩
    · rintro (h | ⟨y, hy, e⟩)
      · exact Or.inl h
      · exact Or.inr ⟨y, hy, by simpa using e⟩
  have run : ∀ U, j_X16_tookMatches_113 (t : Int) (i : Int) (b2i (f L.length)) V = some (.inl (((i + 1 : Nat) : Int), U)) → b_X16_tookMatches_15 (t : Int) (i : Int) V = (if w32 (i : Int) < w32 (w32 (V 156 83)) then some (.inl (((i + 1 : Nat) : Int), U)) else xit (j_X16_tookMatches_186 (t : Int) V)) := fun U hU => by
    unfold b_X16_tookMatches_15 j_X16_tookMatches_40 l_X16_tookMatches_48
    rw [l2_n ht (by omega), hV.1, Option.bind_some, w32_nn (n := L.length) (by omega), c200m]
    by_cases c : w32 (i : Int) < w32 (w32 (V 156 83))
    · rw [if_pos c, if_pos c, ← hU]
      by_cases c2 : L.length = 200
      · rw [if_pos (show ((L.length : Nat) : Int) = w32 200 by rw [c2]; rfl)]
        rw [f0, decide_eq_true c2] at lp0
        exact lp0
      · rw [if_neg (show ¬ ((L.length : Nat) : Int) = w32 200 by show ¬ ((L.length : Nat) : Int) = 200; omega)]
        rw [f0, decide_eq_false c2] at lp0
        exact lp0
    · rw [if_neg c, if_neg c]
  unfold addL
  by_cases c : L.length = 200 ∨ od x ∈ L.map od
  · refine ⟨V, run V ?_, by rw [if_pos c]; exact hV, fun _ _ _ => rfl⟩
    rw [fe.mpr c]
    unfold j_X16_tookMatches_113 j_X16_tookMatches_180
    rw [if_neg (by decide)]; rfl
  · have fF : f L.length = false := by cases hq : f L.length with | true => exact absurd (fe.mp hq) c | false => rfl
    obtain ⟨U, hU⟩ : ∃ U, U = st2 (st2 (st2 (st2 V 258 t ((L.length : Int) + 1)) 259 (200 * t + L.length) x.1) 260 (200 * t + L.length) x.2.1) 261 (200 * t + L.length) x.2.2 := ⟨_, rfl⟩
    have w3 : w32 x.1 = x.1 := by rw [← h1]; exact w32_vI
    have w4 : w32 x.2.1 = x.2.1 := by rw [← h2]; exact w32_vI
    have w5 : w32 x.2.2 = x.2.2 := by rw [← h3]; exact w32_vI
    have ln : L.length < 200 := by omega
    refine ⟨U, run U ?_, ?_, fun a y z => ?_⟩
    · rw [fF]
      unfold j_X16_tookMatches_113 j_X16_tookMatches_180
      rw [if_pos (by decide), l2_n ht (by omega), hV.1, Option.bind_some, Option.bind_some, s2_n ht (by omega), Option.bind_some, l2_n hi (by omega), vI_ne (by omega), h1, Option.bind_some, c200m, cadd, s2_n (by omega) (by omega), Option.bind_some, l2_n hi (by omega), vI_ne (by omega), vI_ne (by omega), h2, Option.bind_some, s2_n (by omega) (by omega), Option.bind_some, l2_n hi (by omega), vI_ne (by omega), vI_ne (by omega), vI_ne (by omega), h3, Option.bind_some, s2_n (by omega) (by omega), Option.bind_some, ← hU]
      rfl
    · rw [if_neg c]
      refine ⟨by rw [hU, vI_ne (by omega), vI_ne (by omega), vI_ne (by omega), vI_eq rfl, List.length_append, show ((L.length : Nat) : Int) + 1 = ((L.length + 1 : Nat) : Int) from rfl, w32_nn (by omega)]; rfl, fun k hk => ?_⟩
      rw [List.length_append] at hk
      have hk : k < L.length + 1 := hk
      rw [getD_snoc hk]
      show (vI U 259 (200 * t + k), vI U 260 (200 * t + k), vI U 261 (200 * t + k)) = _
      rw [hU, vI_ne (by omega), vI_ne (by omega), vI_st2, vI_ne (by omega), vI_ne (by omega), vI_st2, vI_ne (by omega), vI_ne (by omega), vI_st2, vI_ne (by omega), vI_ne (by omega), vI_ne (by omega)]
      by_cases ck : k = L.length
      · rw [if_pos ⟨rfl, by omega⟩, if_pos ⟨rfl, by omega⟩, if_pos ⟨rfl, by omega⟩, if_pos ck, w3, w4, w5]
      · rw [if_neg (by omega), if_neg (by omega), if_neg (by omega), if_neg ck]
        exact hV.2 k (by omega)
    · rw [hU, st2_ne (by unfold PLi at z; omega), st2_ne (by unfold PLi at z; omega), st2_ne (by unfold PLi at z; omega), st2_ne (by unfold PLi at z; omega)]
/-- MATCHES come -/
theorem v_tookMatches (h : VY V m al N own sd ps sn pu rf tm Lb oth Z ev tn Y) (ht : t < 44) (htn : tn t < 2000000000) (hr : 0 ≤ yv Y 229 t ∧ yv Y 229 t < 256) (hL : okL (qL (yq Y) t)) (hT : TellV V tl) (hok : okM tl) (h84 : vI V 156 84 = b2i more) : ∃ V' tn', f_X16_tookMatches (t : Int) V = some V' ∧ VY V' m al N own sd ps sn pu rf tm Lb oth Z ev tn' (tmY t more tl Y) ∧ KpV V V' ∧ TnS t 1 tn tn' := by
  obtain ⟨L, hLd⟩ : ∃ L, L = qL (yq Y) t := ⟨_, rfl⟩
  rw [← hLd] at hL
  have s5 := h.2.2.2.2.1
  have r254 : vI V 254 t = yv Y 254 t := s5 254 t (by unfold scA; omega)
  have LV : LiV V t L := ⟨by rw [hLd]; exact (h.2.2.2.2.2.1.1 t ht).1, fun i hi => by rw [hLd] at hi ⊢; exact qs_gLi h.2.2.2.2.2.1 ht hi⟩
  obtain ⟨v4, hv4⟩ : ∃ v4, v4 = yv Y 254 t + (tl.length : Int) := ⟨_, rfl⟩
  obtain ⟨V1, hV1⟩ : ∃ V1, V1 = st2 V 254 t v4 := ⟨_, rfl⟩
  have l30 := hT.2.1
  have lens : ∀ k, k ≤ tl.length → okL ((tl.take k).foldl addL L) := fun k hk => okL_adds hL (fun z hz => hok.2 z (List.mem_of_mem_take hz))
  have loop : ∀ d k fu (U : VV), d + k = tl.length → d < fu → LiV U t ((tl.take k).foldl addL L) → (∀ a x, ¬ PLi t a x → U a x = V1 a x) → ∃ U', lpN (fun s : Int × VV => b_X16_tookMatches_15 (t : Int) s.1 s.2) fu ((k : Int), U) = j_X16_tookMatches_186 (t : Int) U' ∧ LiV U' t (tl.foldl addL L) ∧ ∀ a x, ¬ PLi t a x → U' a x = V1 a x := by
    intro d
    induction d with
    | zero =>
      intro k fu U hd hf u1 u2
      have e : k = tl.length := by omega
      subst e
      rw [List.take_of_length_le (Nat.le_refl _)] at u1
      refine ⟨U, lpN_end (b := fun s : Int × VV => b_X16_tookMatches_15 (t : Int) s.1 s.2) (by omega) ?_, u1, u2⟩
      dsimp only
      unfold b_X16_tookMatches_15
      rw [u2 156 83 (by unfold PLi; omega), hV1, st2_ne (by omega), show w32 (V 156 83) = _ from hT.1, w32_nn (by omega), if_neg (by omega)]
    | succ d ih =>
      intro k fu U hd hf u1 u2
      obtain ⟨f, rfl⟩ : ∃ f, fu = f + 1 := ⟨fu - 1, by omega⟩
      obtain ⟨x, hx⟩ : ∃ x, x = tl.getD k it0 := ⟨_, rfl⟩
      have uv : ∀ a i, (221 ≤ a ∧ a ≤ 223) → vI U a i = vI V a i := fun a i z => by show w32 _ = w32 _; rw [u2 a i (by unfold PLi; omega), hV1, st2_ne (by omega)]
      obtain ⟨t1, t2, t3⟩ := hT.2.2 k (by omega)
      obtain ⟨U1, a1, a2, a3⟩ := v_addOne (x := x) ht (lens k (by omega)) u1 (show k < 30 by omega) (by rw [uv 221 k (by omega), hx]; exact t1) (by rw [uv 222 k (by omega), hx]; exact t2) (by rw [uv 223 k (by omega), hx]; exact t3)
      rw [u2 156 83 (by unfold PLi; omega), hV1, st2_ne (by omega), show w32 (V 156 83) = _ from hT.1, w32_nn (by omega), w32_nn (by omega), if_pos (by omega)] at a1
      rw [lpN_cnt (b := fun s : Int × VV => b_X16_tookMatches_15 (t : Int) s.1 s.2) (s := ((k : Int), U)) a1]
      refine ih (k + 1) f U1 (by omega) (by omega) ?_ (fun a x z => by rw [a3 a x z]; exact u2 a x z)
      rw [take_s (d := it0) (by omega), List.foldl_append, ← hx]
      exact a2
  obtain ⟨U, a1, a2, a3⟩ := loop tl.length 0 FU V1 (by omega) (by unfold FU; omega) (by
    rw [List.take_zero]
    refine ⟨by rw [hV1, vI_ne (by omega)]; exact LV.1, fun i hi => ?_⟩
    have e := LV.2 i hi
    unfold gLi at e ⊢
    rw [hV1, vI_ne (by omega), vI_ne (by omega), vI_ne (by omega)]; exact e) (fun _ _ _ => rfl)
  obtain ⟨L', hL'⟩ : ∃ L', L' = tl.foldl addL L := ⟨_, rfl⟩
  have ok' : okL L' := by rw [hL']; exact okL_adds hL hok.2
  rw [← hL'] at a2
  have l200 := ok'.1
  have uraw : ∀ a i, ¬ PLi t a i → ¬ (a = 254 ∧ i = t) → U a i = V a i := fun a i z1 z2 => by rw [a3 a i z1, hV1, st2_ne z2]
  have YU : VY U m al N own sd ps sn pu rf tm Lb oth Z ev tn (yw Y, yl Y, st2 (ys Y) 254 t v4, lstQ t L' [] (yq Y)) := by
    refine vy_list h ht ok'.1 (fun a i z1 z2 z3 z4 => uraw a i (by unfold PLi; omega) (fun q => z3 (by unfold scA; omega))) (fun a i z => ?_) (fun a i z1 z2 z3 z4 => vI_ne (by omega)) a2.1 a2.2 [] (by decide) (fun i hi => absurd hi (Nat.not_lt_zero _)) (fun a i z z1 z2 z3 z4 => uraw a i (by unfold PLi; unfold scA at z; omega) (by omega))
    rw [vI_st2]
    by_cases c : a = 254 ∧ i = t
    · rw [if_pos c, c.1, c.2]
      show w32 _ = _
      rw [a3 254 t (by unfold PLi; omega), hV1]
      show vI (st2 V 254 t v4) 254 t = _
      rw [vI_eq rfl]
    · rw [if_neg c]
      show w32 _ = _
      rw [uraw a i (by unfold PLi; unfold scA at z; omega) c]
      exact s5 a i z
  have KU : KpV V U := KpV_ag (fun a i z => uraw a i (by unfold PLi; unfold kpA at z; omega) (by unfold kpA at z; omega))
  have run : f_X16_tookMatches (t : Int) V = j_X16_tookMatches_186 (t : Int) U := by
    unfold f_X16_tookMatches l_X16_tookMatches_15
    rw [l2_n ht (by omega), r254, Option.bind_some, show w32 (V 156 83) = (tl.length : Int) from hT.1, s2_n ht (by omega), Option.bind_some, ← hv4, ← hV1, show (0 : Int) = ((0 : Nat) : Int) from rfl, a1]
  have r84 : w32 (U 156 84) = b2i more := by rw [uraw 156 84 (by unfold PLi; omega) (by omega)]; exact h84
  have r247 : vI U 247 t = yv Y 247 t := by
    show w32 _ = _
    rw [uraw 247 t (by unfold PLi; omega) (by omega)]
    exact s5 247 t (by unfold scA; omega)
  -- behind the list
  have f206 : ∃ V' tn', j_X16_tookMatches_206 (t : Int) U = some V' ∧ VY V' m al N own sd ps sn pu rf tm Lb oth Z ev tn' (if L' = [] ∨ yv Y 247 t = 1 then rnkY t (yw Y, yl Y, st2 (ys Y) 254 t v4, lstQ t L' [] (yq Y)) else (yw Y, yl Y, st2 (st2 (st2 (st2 (ys Y) 254 t v4) 263 t 0) 264 t 0) 230 t 5, lstQ t L' [] (yq Y))) ∧ KpV V V' ∧ TnS t 1 tn tn' := by
    unfold j_X16_tookMatches_206 j_X16_tookMatches_225
    rw [l2_n ht (by omega), a2.1, Option.bind_some, w32_nn (by omega)]
    have fin : ∃ V', ((f_X16_ranked (t : Int) U).bind fun V1 => some V1) = some V' ∧ VY V' m al N own sd ps sn pu rf tm Lb oth Z ev (fup tn t (tn t + 1)) (rnkY t (yw Y, yl Y, st2 (ys Y) 254 t v4, lstQ t L' [] (yq Y))) ∧ KpV V V' := by
      obtain ⟨V', e1, e2, e3⟩ := v_ranked YU ht htn (by
        have : yv (yw Y, yl Y, st2 (ys Y) 254 t v4, lstQ t L' [] (yq Y)) 229 t = yv Y 229 t := vI_ne (by omega)
        rw [this]; exact hr) (by show okL ((fup (qL (yq Y)) t L') t); rw [fup_eq]; exact ok') (by show (fup (qF (yq Y)) t []) t = []; rw [fup_eq])
      exact ⟨V', by rw [e1]; rfl, e2, KU.trans e3⟩
    by_cases c1 : L'.length = 0
    · have e : L' = [] := List.length_eq_zero_iff.mp c1
      rw [if_pos (by omega), if_pos (Or.inl e)]
      obtain ⟨V', e1, e2, e3⟩ := fin
      exact ⟨V', _, e1, e2, e3, TnS.up⟩
    · rw [if_neg (by omega), l2_n ht (by omega), r247, Option.bind_some, show w32 (yv Y 247 t) = yv Y 247 t from w32_vI]
      by_cases c2 : yv Y 247 t = 1
      · rw [if_pos (show yv Y 247 t = w32 1 from c2), if_pos (Or.inr c2)]
        obtain ⟨V', e1, e2, e3⟩ := fin
        exact ⟨V', _, e1, e2, e3, TnS.up⟩
      · rw [if_neg (show ¬ yv Y 247 t = w32 1 from c2), if_neg (fun q => by rcases q with q | q; exact c1 (by rw [q]; rfl); exact c2 q), s2_n ht (by omega), Option.bind_some, s2_n ht (by omega), Option.bind_some, s2_n ht (by omega), Option.bind_some]
        refine ⟨_, tn, rfl, vy_st (a := 230) (vy_st (a := 264) (vy_st (a := 263) YU (by omega)) (by omega)) (by omega), ((KU.trans (KpV_st (by unfold kpA; omega))).trans (KpV_st (by unfold kpA; omega))).trans (KpV_st (by unfold kpA; omega)), TnS.refl⟩
  rw [run]
  unfold j_X16_tookMatches_186 tmY
  rw [← hLd, ← hL', ← hv4, r84, w32_b2i]
  cases more with
  | false =>
    rw [if_pos (by decide), if_neg (fun q => absurd q.1 (by decide))]
    exact f206
  | true =>
    rw [if_neg (by decide), l2_n ht (by omega), a2.1, Option.bind_some, w32_nn (by omega)]
    by_cases c : L'.length < 200
    · rw [if_pos (show ((L'.length : Nat) : Int) < w32 200 by show ((L'.length : Nat) : Int) < 200; omega), if_pos ⟨rfl, c⟩]
      exact ⟨U, tn, rfl, YU, KU, TnS.refl⟩
    · rw [if_neg (show ¬ ((L'.length : Nat) : Int) < w32 200 by show ¬ ((L'.length : Nat) : Int) < 200; omega), if_neg (fun q => c q.2)]
      exact f206
end VMATCH
