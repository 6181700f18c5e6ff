theorem m3_f {a i : Nat} (h : mv a i ≠ 3) : m3 (mv a i) = false := by
  unfold m3
  simpa using h
section VKEEP2
variable {V W : VV} {p i k : Nat} {S S' : List Post} {Ss : Nat → List Post} {its : List It} {e n q : Nat} {x : Post} {en : Int}
/-- weight and end of a slot are written -/
theorem v_keep265 {X K : Nat} {tm s7 : Int} (hX : X < 6400) (hK : K < 16) (h11 : vI V 156 11 = tm) (h7 : vI V 162 7 = s7) : j_X16_keep_265 (p : Int) (e : Int) (q : Int) (K : Int) (X : Int) V = cnt (((K + 1 : Nat) : Int), st2 (st2 V 214 X (vI V 219 K)) 215 X (tm + s7)) := by
  unfold j_X16_keep_265
  have e1 : (7 : Int) = ((7 : Nat) : Int) := rfl
  simp (disch := omega) only [l2_n, s2_n, Option.bind_some, e1, vI_ne, h7, cadd1]
  rw [show w32 (st2 V 214 X (vI V 219 K) 156 11) = tm by rw [← h11]; exact vI_ne (by omega)]
theorem v_keep (h : StsV V Ss) (hp : p < 32) (he : mA e n) (hq : q + 5 ≤ n) (hn : n ≤ 1000000) (hm : ∀ i, m3 (mv e i) = false) (hI : ItV V its) (hoI : okI its) {tm s7 : Int} (h11 : vI V 156 11 = tm) (h7 : vI V 162 7 = s7) :
    match keepS (gk V e q) its (w32 (tm + s7)) (Ss p) with
    | none => f_X16_keep (p : Int) (e : Int) (q : Int) V = some (0, st2 V 172 (5 * p + 2) (vI V 172 (5 * p + 2) + 1))
    | some S' => ∃ V', f_X16_keep (p : Int) (e : Int) (q : Int) V = some (1, V') ∧ StsV V' (fup Ss p S') ∧ FrV m3 V V' := by
  obtain ⟨key, hkey⟩ : ∃ key, key = gk V e q := ⟨_, rfl⟩
  obtain ⟨en, hen⟩ : ∃ en, en = w32 (tm + s7) := ⟨_, rfl⟩
  rw [v_keep1 (h p hp) hp he hq hn hI hoI, ← hkey, ← hen]
  have hwen : w32 en = en := by rw [hen, w32_w32]
  obtain ⟨i1, i2⟩ := id hI
  obtain ⟨o1, o2⟩ := hoI
  have hkok : kyo key := hkey ▸ gk_ok V e q
  have hS := h p hp
  have hl := hS.2.1.1
  have hfl : frN key (Ss p) its its.length ≤ 16 := by
    unfold frN
    have := List.length_filter_le (frs key (Ss p) its) (List.range its.length)
    rw [List.length_range] at this
    omega
  unfold keepS j_X16_keep_129
  rw [l2_n (by omega) (by decide), Option.bind_some, hS.1, cadd, show w32 200 = 200 by decide, w32_nn (by omega)]
  by_cases c200 : (Ss p).length + frN key (Ss p) its its.length ≤ 200
  · rw [if_pos c200, if_neg (by omega)]
    -- the loop
    have ne211 : e ≠ 211 := fun z => by have := hm 0; rw [z] at this; exact absurd this (by decide)
    have stp : ∀ k (s : Int × VV), k < its.length → (s.1 = (k : Int) ∧ StsV s.2 (fup Ss p (keepF key (its.take k) en (Ss p))) ∧ (keepF key (its.take k) en (Ss p)).length = (Ss p).length + frN key (Ss p) its k ∧ FrV m3 V s.2) → ∃ s', b_X16_keep_163 (p : Int) (e : Int) (q : Int) s.1 s.2 = some (.inl s') ∧ (s'.1 = ((k + 1 : Nat) : Int) ∧ StsV s'.2 (fup Ss p (keepF key (its.take (k + 1)) en (Ss p))) ∧ (keepF key (its.take (k + 1)) en (Ss p)).length = (Ss p).length + frN key (Ss p) its (k + 1) ∧ FrV m3 V s'.2) := by
      rintro k ⟨z, U⟩ hk ⟨rfl, g1, g2, g3⟩
      dsimp only at g1 g2 g3 ⊢
      generalize hSk : keepF key (its.take k) en (Ss p) = Sk at g1 g2
      have gS := g1 p hp
      rw [fup_eq] at gS
      have hgl := gS.2.1.1
      obtain ⟨j1, j2, j3⟩ := i2 k hk
      have hz := o2 _ (getD_mem (d := it0) hk)
      generalize hIt : its.getD k it0 = It at j1 j2 j3 hz
      have hwo : w32 It.1 = It.1 := w32_id (by omega) (by omega)
      have hwd : w32 It.2.1 = It.2.1 := w32_id (by omega) (by omega)
      have u1 : vI U 217 k = It.1 := by rw [fv g3 (show m3 (mv 217 k) = false from rfl)]; exact j1
      have u2 : vI U 218 k = It.2.1 := by rw [fv g3 (show m3 (mv 218 k) = false from rfl)]; exact j2
      have u3 : vI U 219 k = It.2.2 := by rw [fv g3 (show m3 (mv 219 k) = false from rfl)]; exact j3
      have u74 : vI U 156 74 = (its.length : Int) := by rw [fv g3 (m3_f (by decide))]; exact i1
      have u11 : vI U 156 11 = tm := by rw [fv g3 (m3_f (by decide))]; exact h11
      have u7 : vI U 162 7 = s7 := by rw [fv g3 (m3_f (by decide))]; exact h7
      have ukey : gk U e q = key := by rw [gk_fr g3 hm, hkey]
      have enx : ∀ Sx, keepF key (its.take (k + 1)) en (Ss p) = Sx ↔ putP Sk (key, It.1, It.2.1, It.2.2, en) = Sx := fun Sx => by rw [keepF_succ hk, hSk, hIt]
      have okx : okP (key, It.1, It.2.1, It.2.2, en) := ⟨hkok, by dsimp only; omega, by dsimp only; omega, by dsimp only; omega, hwen⟩
      unfold b_X16_keep_163
      rw [show w32 (U 156 74) = (its.length : Int) from u74, w32_nn (by omega), w32_nn (by omega), if_pos (by omega), l2_n (by omega) (by decide), Option.bind_some, l2_n (by omega) (by decide), Option.bind_some, u1, u2, (enx _).mpr rfl]
      have hfm := frN_mono (key := key) (S := Ss p) (its := its) (show k + 1 ≤ its.length by omega)
      rcases v_postingWith gS hp he hq hn hwo hwd with ⟨i, hi, f1, f2⟩ | ⟨f1, f2⟩
      · rw [f1, Option.bind_some, w32_nn (by omega), if_neg (by omega), v_keep265 (by omega) (by omega) u11 u7, u3]
        rw [ukey] at f2
        have hfr : frs key (Ss p) its k = false := by
          cases hc : frs key (Ss p) its k with
          | false => rfl
          | true =>
            have := (frs_iff (en := en) hk).mp hc
            rw [hSk, hIt, hasP_no] at this
            exact absurd f2 (this _ (st_slot gS hi))
        generalize hX : 200 * p + i = X at f1 f2
        have gx : gP (st2 (st2 U 214 X It.2.2) 215 X (tm + s7)) X = (key, It.1, It.2.1, It.2.2, en) := by
          unfold gP
          have f3 := f2
          unfold pid gP at f3
          simp only [Prod.mk.injEq] at f3
          rw [gk_st2 (by decide), gk_st2 (by decide), vI_ne (by omega), vI_ne (by omega), vI_ne (by omega), vI_ne (by omega), vI_ne (by omega), vI_eq rfl, vI_eq rfl, f3.1, f3.2.1, f3.2.2, ← hen, w32_id (by omega) (by omega)]
        have go : ∀ j, j ≠ X → gP (st2 (st2 U 214 X It.2.2) 215 X (tm + s7)) j = gP U j := fun j hj => gP_ext (by rw [gk_st2 (by decide), gk_st2 (by decide)]) (by rw [vI_ne (by omega), vI_ne (by omega)]) (by rw [vI_ne (by omega), vI_ne (by omega)]) (by rw [vI_ne (by omega), vI_ne (by omega)]) (by rw [vI_ne (by omega), vI_ne (by omega)])
        have g210 : ∀ z, vI (st2 (st2 U 214 X It.2.2) 215 X (tm + s7)) 210 z = vI U 210 z := fun z => by rw [vI_ne (by omega), vI_ne (by omega)]
        have su := st_upd (x := (key, It.1, It.2.1, It.2.2, en)) (W := st2 (st2 U 214 X It.2.2) 215 X (tm + s7)) gS hi okx (by rw [hX]; exact f2) (g210 p) (fun j hj => by
          by_cases c : j = i
          · rw [if_pos c, c, hX]; exact gx
          · rw [if_neg c]; exact go _ (by omega))
        refine ⟨_, rfl, rfl, ?_, ?_, g3.trans ((FrV_st (mv3 (by decide) _)).trans (FrV_st (mv3 (by decide) _)))⟩
        · have := sts_upd g1 su (fun z hz hz2 => ⟨g210 z, fun j hj => go _ (by omega)⟩)
          rw [fup_fup] at this
          exact this
        · rw [frN_succ, hfr, if_neg (by decide), Nat.add_zero, ← g2]
          have := su.1
          rw [g210, gS.1] at this
          omega
      · rw [ukey] at f2
        have hfr : frs key (Ss p) its k = true := by
          rw [frs_iff (en := en) hk, hSk, hIt]
          exact hasP_no.mpr f2
        have hlt : Sk.length < 200 := by
          rw [frN_succ, hfr, if_pos rfl] at hfm
          omega
        obtain ⟨X, hX⟩ : ∃ X, X = 200 * p + Sk.length := ⟨_, rfl⟩
        rw [f1, Option.bind_some, w32_m1, if_pos (by decide), l2_n (by omega) (by decide), Option.bind_some, Option.bind_some, s2_n (by omega) (by decide), Option.bind_some, gS.1, cadd1, c200m, cadd, ← hX, c5m]
        let U1 := st2 U 210 p ((Sk.length + 1 : Nat) : Int)
        let U2 := kput U1 211 (5 * X) e q
        have pu := e_put (V := U1) (p := 5 * X) (p' := q) m211 (by omega) (by decide) he hq hn (Or.inl (Ne.symm ne211))
        show ∃ s', ((f_X16_put ((211 : Nat) : Int) ((5 * X : Nat) : Int) (e : Int) (q : Int) U1).bind _) = _ ∧ _
        rw [pu, Option.bind_some]
        let U4 := st2 (st2 U2 212 X It.1) 213 X It.2.1
        have r2 : ∀ a j, a ≠ 210 → a ≠ 211 → vI U2 a j = vI U a j := fun a j h1 h2 => by
          show vI (kput (st2 _ _ _ _) _ _ _ _) _ _ = _
          rw [vI_kput h2, vI_ne (by omega)]
        have r4 : ∀ a j, a ≠ 210 → a ≠ 211 → a ≠ 212 → a ≠ 213 → vI U4 a j = vI U a j := fun a j h1 h2 h3 h4 => by
          show vI (st2 (st2 U2 _ _ _) _ _ _) _ _ = _
          rw [vI_ne (by omega), vI_ne (by omega), r2 a j h1 h2]
        have run : ((l2 217 16 (k : Int) U2).bind fun v6 => (s2 212 6400 ((X : Nat) : Int) v6 U2).bind fun V3 => (l2 218 16 (k : Int) V3).bind fun v7 => (s2 213 6400 ((X : Nat) : Int) v7 V3).bind fun V4 => j_X16_keep_265 (p : Int) (e : Int) (q : Int) (k : Int) ((X : Nat) : Int) V4) = cnt (((k + 1 : Nat) : Int), st2 (st2 U4 214 X It.2.2) 215 X (tm + s7)) := by
          rw [l2_n (by omega) (by decide), Option.bind_some, s2_n (by omega) (by decide), Option.bind_some, l2_n (by omega) (by decide), Option.bind_some, s2_n (by omega) (by decide), Option.bind_some, vI_ne (by omega), r2 _ _ (by decide) (by decide), r2 _ _ (by decide) (by decide), u1, u2]
          show j_X16_keep_265 (p : Int) (e : Int) (q : Int) (k : Int) ((X : Nat) : Int) U4 = _
          rw [v_keep265 (tm := tm) (s7 := s7) (by omega) (by omega) (by rw [r4 _ _ (by decide) (by decide) (by decide) (by decide)]; exact u11) (by rw [r4 _ _ (by decide) (by decide) (by decide) (by decide)]; exact u7), r4 _ _ (by decide) (by decide) (by decide) (by decide), u3]
        rw [run]
        generalize hU6 : st2 (st2 U4 214 X It.2.2) 215 X (tm + s7) = U6
        have gkU : ∀ j, gk U6 211 (5 * j) = if j = X then key else gk U 211 (5 * j) := by
          intro j
          rw [← hU6, gk_st2 (by decide), gk_st2 (by decide)]
          show gk (st2 (st2 U2 _ _ _) _ _ _) _ _ = _
          rw [gk_st2 (by decide), gk_st2 (by decide)]
          have ne210 : e ≠ 210 := fun z => by have := hm 0; rw [z] at this; exact absurd this (by decide)
          by_cases c : j = X
          · rw [if_pos c, c]
            show gk (kput U1 211 (5 * X) e q) 211 (5 * X) = _
            rw [gk_kput3, ← ukey]; exact gk_st2 ne210
          · rw [if_neg c]
            show gk (kput U1 211 (5 * X) e q) 211 (5 * j) = _
            rw [gk_kput2 (by omega)]; exact gk_st2 (by decide)
        have gx : gP U6 X = (key, It.1, It.2.1, It.2.2, en) := by
          unfold gP
          rw [gkU, if_pos rfl, ← hU6]
          simp (disch := omega) only [show U4 = st2 (st2 U2 212 X It.1) 213 X It.2.1 from rfl, vI_ne, vI_eq]
          rw [hwo, hwd, ← hen, w32_id (by omega) (by omega)]
        have go : ∀ j, j ≠ X → gP U6 j = gP U j := fun j hj => by
          refine gP_ext (by rw [gkU, if_neg hj]) ?_ ?_ ?_ ?_
          · rw [← hU6, vI_ne (by omega), vI_ne (by omega)]
            show vI (st2 (st2 U2 _ _ _) _ _ _) _ _ = _
            rw [vI_ne (by omega), vI_ne (by omega), r2 _ _ (by decide) (by decide)]
          · rw [← hU6, vI_ne (by omega), vI_ne (by omega)]
            show vI (st2 (st2 U2 _ _ _) _ _ _) _ _ = _
            rw [vI_ne (by omega), vI_ne (by omega), r2 _ _ (by decide) (by decide)]
          · rw [← hU6, vI_ne (by omega), vI_ne (by omega), r4 _ _ (by decide) (by decide) (by decide) (by decide)]
          · rw [← hU6, vI_ne (by omega), vI_ne (by omega), r4 _ _ (by decide) (by decide) (by decide) (by decide)]
        have g210 : ∀ z, vI U6 210 z = if z = p then ((Sk.length + 1 : Nat) : Int) else vI U 210 z := fun z => by
          rw [← hU6, vI_ne (by omega), vI_ne (by omega)]
          show vI (st2 (st2 U2 _ _ _) _ _ _) _ _ = _
          rw [vI_ne (by omega), vI_ne (by omega)]
          show vI (kput (st2 _ _ _ _) _ _ _ _) _ _ = _
          rw [vI_kput (by decide), vI_st2, w32_nn (by omega)]
          simp
        have su := st_add (x := (key, It.1, It.2.1, It.2.2, en)) (W := U6) gS hlt okx f2 (by rw [g210, if_pos rfl]) (fun j hj => go _ (by omega)) (by rw [← hX]; exact gx)
        refine ⟨_, rfl, rfl, ?_, ?_, ?_⟩
        · have := sts_upd g1 su (fun z hz hz2 => ⟨by rw [g210, if_neg hz], fun j hj => go _ (by omega)⟩)
          rw [fup_fup] at this
          exact this
        · rw [frN_succ, hfr, if_pos rfl]
          have := su.1
          rw [g210, if_pos rfl] at this
          omega
        · refine g3.trans ?_
          rw [← hU6]
          exact (((((FrV_st (mv3 (by decide) _)).trans (FrV_kput (mv3 (by decide)))).trans (FrV_st (mv3 (by decide) _))).trans (FrV_st (mv3 (by decide) _))).trans (FrV_st (mv3 (by decide) _))).trans (FrV_st (mv3 (by decide) _))
    obtain ⟨⟨z, V'⟩, n2, hn2, ⟨rfl, g1, g2, g3⟩, q2⟩ := lp_inv (b := fun s : Int × VV => b_X16_keep_163 (p : Int) (e : Int) (q : Int) s.1 s.2) (fun k s => s.1 = (k : Int) ∧ StsV s.2 (fup Ss p (keepF key (its.take k) en (Ss p))) ∧ (keepF key (its.take k) en (Ss p)).length = (Ss p).length + frN key (Ss p) its k ∧ FrV m3 V s.2) its.length stp FU 0 (0, V) (by omega) (by unfold FU; omega) ⟨rfl, by simp only [List.take_zero]; show StsV V (fup Ss p (Ss p)); rw [fup_self]; exact h, by simp [keepF, frN], FrV.refl⟩
    dsimp only at g1 g2 g3
    rw [List.take_length] at g1
    refine ⟨V', ?_, g1, g3⟩
    unfold l_X16_keep_163
    refine q2.trans ?_
    refine lpN_end (b := fun s : Int × VV => b_X16_keep_163 (p : Int) (e : Int) (q : Int) s.1 s.2) hn2 ?_
    dsimp only
    unfold b_X16_keep_163
    have u74 : vI V' 156 74 = (its.length : Int) := by rw [fv g3 (m3_f (by decide))]; exact i1
    rw [show w32 (V' 156 74) = (its.length : Int) from u74, if_neg (by omega)]
  · rw [if_neg c200, if_pos (by omega)]
    show _ = some (0, st2 V 172 (5 * p + 2) (vI V 172 (5 * p + 2) + 1))
    rw [c5m, cadd2, l2_n (by omega) (by decide), Option.bind_some, s2_n (by omega) (by decide), Option.bind_some]
end VKEEP2
