/-! what has come to its end; the postings of a key -/
def expS (tm : Int) (S : List Post) : List Post := S.filter (fun x => decide (tm < x.2.2.2.2))
def post0 : Post := ((0, 0, 0, 0, 0), 0, 0, 0, 0)
theorem getD_apl {α : Type} {l l' : List α} {j : Nat} {d : α} (h : j < l.length) : (l ++ l').getD j d = l.getD j d := by
  rw [List.getD_eq_getElem?_getD, List.getD_eq_getElem?_getD, List.getElem?_append_left h]
theorem SrtM_rws {α : Type} {f : Nat → α} {l : List α} (h : ∀ i, (hi : i < l.length) → f i = l[i]) : rws f l.length = l := by
  apply List.ext_getElem
  · rw [rws_len]
  · intro i h1 h2
    rw [rws_get]; exact h i h2
section VEXP
variable {V W : VV} {p i k : Nat} {S S' : List Post} {Ss : Nat → List Post} {e n q : Nat} {x : Post} {tm : Int}
theorem okSt_filter {f : Post → Bool} (h : okSt S) : okSt (S.filter f) := ⟨Nat.le_trans (List.length_filter_le _ _) h.1, h.2.1.filter _, fun x hx => h.2.2 x (List.mem_filter.mp hx).1⟩
/-- a posting is copied to another place -/
theorem v_cpP {U : VV} {X Y : Nat} (hX : X < 6400) (hY : Y < 6400) (hXY : X ≤ Y) : ∃ U', (∀ κ : VV → Option ((Int × Int × VV) ⊕ VV), ((f_X16_put 211 ((5 * X : Nat) : Int) 211 ((5 * Y : Nat) : Int) U).bind fun V1 => (l2 212 6400 (Y : Int) V1).bind fun v3 => (s2 212 6400 (X : Int) v3 V1).bind fun V2 => (l2 213 6400 (Y : Int) V2).bind fun v4 => (s2 213 6400 (X : Int) v4 V2).bind fun V3 => (l2 214 6400 (Y : Int) V3).bind fun v5 => (s2 214 6400 (X : Int) v5 V3).bind fun V4 => (l2 215 6400 (Y : Int) V4).bind fun v6 => (s2 215 6400 (X : Int) v6 V4).bind fun V5 => κ V5) = κ U') ∧ gP U' X = gP U Y ∧ (∀ j, j ≠ X → gP U' j = gP U j) ∧ FrV m3 U U' ∧ ∀ z, vI U' 210 z = vI U 210 z := by
  have pu := e_put (V := U) (p := 5 * X) (p' := 5 * Y) m211 (by omega) (by decide) m211 (by omega) (by decide) (by omega)
  have e1 : (211 : Int) = ((211 : Nat) : Int) := rfl
  obtain ⟨U1, hU1⟩ : ∃ U1, U1 = kput U 211 (5 * X) 211 (5 * Y) := ⟨_, rfl⟩
  have r1 : ∀ a j, a ≠ 211 → vI U1 a j = vI U a j := fun a j h => by rw [hU1, vI_kput h]
  have g1 : ∀ j, gk U1 211 (5 * j) = if j = X then gk U 211 (5 * Y) else gk U 211 (5 * j) := fun j => by
    by_cases c : j = X
    · rw [if_pos c, c, hU1, gk_kput3]
    · rw [if_neg c, hU1, gk_kput2 (by omega)]
  refine ⟨st2 (st2 (st2 (st2 U1 212 X (vI U 212 Y)) 213 X (vI U 213 Y)) 214 X (vI U 214 Y)) 215 X (vI U 215 Y), fun κ => ?_, ?_, fun j hj => ?_, ?_, fun z => ?_⟩
  · rw [e1, pu, Option.bind_some, ← hU1]
    simp (disch := omega) only [l2_n, s2_n, Option.bind_some, vI_ne, r1]
  · unfold gP
    rw [gk_st2 (by decide), gk_st2 (by decide), gk_st2 (by decide), gk_st2 (by decide), g1, if_pos rfl]
    simp (disch := omega) only [vI_ne, vI_eq, w32_vI]
  · refine gP_ext ?_ ?_ ?_ ?_ ?_
    · rw [gk_st2 (by decide), gk_st2 (by decide), gk_st2 (by decide), gk_st2 (by decide), g1, if_neg hj]
    all_goals simp (disch := omega) only [vI_ne, r1]
  · rw [hU1]
    exact ((((FrV_kput (mv3 (by decide))).trans (FrV_st (mv3 (by decide) _))).trans (FrV_st (mv3 (by decide) _))).trans (FrV_st (mv3 (by decide) _))).trans (FrV_st (mv3 (by decide) _))
  · simp (disch := omega) only [vI_ne, r1]
theorem v_expire (h : StsV V Ss) (hp : p < 32) (h11 : vI V 156 11 = tm) : ∃ V', f_X16_expire (p : Int) V = some V' ∧ StsV V' (fup Ss p (expS tm (Ss p))) ∧ FrV m3 V V' := by
  have hS := h p hp
  have hl := hS.2.1.1
  let f : Post → Bool := fun x => decide (tm < x.2.2.2.2)
  let A : Nat → List Post := fun k => (postsV V p k).filter f
  have hAl : ∀ k, (A k).length ≤ k := fun k => by
    have := List.length_filter_le f (postsV V p k)
    rw [postsV, rws_len] at this
    exact this
  have stp : ∀ k (s : Int × Int × VV), k < (Ss p).length → (s.1 = ((A k).length : Int) ∧ s.2.1 = ((200 * p + k : Nat) : Int) ∧ (∀ j, j < (A k).length → gP s.2.2 (200 * p + j) = (A k).getD j post0) ∧ (∀ j, k ≤ j → gP s.2.2 (200 * p + j) = gP V (200 * p + j)) ∧ (∀ z, z ≠ p → ∀ j, j < 200 → gP s.2.2 (200 * z + j) = gP V (200 * z + j)) ∧ (∀ z, vI s.2.2 210 z = vI V 210 z) ∧ FrV m3 V s.2.2) → ∃ s', b_X16_expire_8 (p : Int) s.1 s.2.1 s.2.2 = some (.inl s') ∧ (s'.1 = ((A (k + 1)).length : Int) ∧ s'.2.1 = ((200 * p + (k + 1) : Nat) : Int) ∧ (∀ j, j < (A (k + 1)).length → gP s'.2.2 (200 * p + j) = (A (k + 1)).getD j post0) ∧ (∀ j, k + 1 ≤ j → gP s'.2.2 (200 * p + j) = gP V (200 * p + j)) ∧ (∀ z, z ≠ p → ∀ j, j < 200 → gP s'.2.2 (200 * z + j) = gP V (200 * z + j)) ∧ (∀ z, vI s'.2.2 210 z = vI V 210 z) ∧ FrV m3 V s'.2.2) := by
    rintro k ⟨c, i, U⟩ hk ⟨rfl, rfl, g1, g2, g3, g4, g5⟩
    dsimp only at g1 g2 g3 g4 g5 ⊢
    have hc := hAl k
    have u11 : vI U 156 11 = tm := by rw [fv g5 (m3_f (by decide))]; exact h11
    have hen : vI U 215 (200 * p + k) = (gP V (200 * p + k)).2.2.2.2 := congrArg (fun z => z.2.2.2.2) (g2 k (Nat.le_refl _))
    have hA1 : A (k + 1) = A k ++ if f (gP V (200 * p + k)) = true then [gP V (200 * p + k)] else [] := rws_filter_succ
    obtain ⟨Y, hY⟩ : ∃ Y, Y = 200 * p + k := ⟨_, rfl⟩
    obtain ⟨X, hX⟩ : ∃ X, X = 200 * p + (A k).length := ⟨_, rfl⟩
    have htw : w32 tm = tm := by rw [← u11, w32_vI]
    have hew : w32 (gP V (200 * p + k)).2.2.2.2 = (gP V (200 * p + k)).2.2.2.2 := by rw [← hen, w32_vI]
    unfold b_X16_expire_8
    rw [l2_n (by omega) (by decide), Option.bind_some, g4, hS.1, c200m, cadd, w32_nn (by omega), w32_nn (by omega), if_pos (by omega), l2_n (by omega) (by decide), Option.bind_some, show w32 (U 156 11) = tm from u11, htw, hen, hew]
    by_cases cf : tm < (gP V (200 * p + k)).2.2.2.2
    · rw [if_pos cf, cadd, ← hX, ← hY, c5m, c5m]
      obtain ⟨U', c1, c2, c3, c4, c5⟩ := v_cpP (U := U) (X := X) (Y := Y) (by omega) (by omega) (by omega)
      rw [c1]
      rw [if_pos (decide_eq_true cf)] at hA1
      have hlen : (A (k + 1)).length = (A k).length + 1 := by rw [hA1]; simp
      refine ⟨(((A k).length : Int) + 1, ((Y : Nat) : Int) + 1, U'), rfl, by rw [hlen]; rfl, by dsimp only; omega, fun j hj => ?_, fun j hj => ?_, fun z hz j hj => ?_, fun z => by rw [c5, g4], g5.trans c4⟩
      · rw [hlen] at hj
        by_cases q : j = (A k).length
        · rw [q, ← hX, c2, hY, g2 k (Nat.le_refl _), hA1]
          simp
        · rw [c3 _ (by omega), g1 j (by omega), hA1, getD_apl (by omega)]
      · rw [c3 _ (by omega)]; exact g2 j (by omega)
      · rw [c3 _ (by omega)]; exact g3 z hz j hj
    · rw [if_neg cf]
      rw [if_neg (by simpa [f] using cf), List.append_nil] at hA1
      exact ⟨(((A k).length : Int), ((200 * p + k : Nat) : Int) + 1, U), rfl, by rw [hA1], by dsimp only; omega, by rw [hA1]; exact g1, fun j hj => g2 j (by omega), g3, g4, g5⟩
  obtain ⟨⟨c, i, U⟩, n2, hn2, ⟨rfl, rfl, g1, g2, g3, g4, g5⟩, q2⟩ := lp_inv (b := fun s : Int × Int × VV => b_X16_expire_8 (p : Int) s.1 s.2.1 s.2.2) (fun k s => s.1 = ((A k).length : Int) ∧ s.2.1 = ((200 * p + k : Nat) : Int) ∧ (∀ j, j < (A k).length → gP s.2.2 (200 * p + j) = (A k).getD j post0) ∧ (∀ j, k ≤ j → gP s.2.2 (200 * p + j) = gP V (200 * p + j)) ∧ (∀ z, z ≠ p → ∀ j, j < 200 → gP s.2.2 (200 * z + j) = gP V (200 * z + j)) ∧ (∀ z, vI s.2.2 210 z = vI V 210 z) ∧ FrV m3 V s.2.2) (Ss p).length stp FU 0 (0, ((200 * p : Nat) : Int), V) (by omega) (by unfold FU; omega) ⟨by simp [A, postsV, rws], rfl, fun j hj => by simp [A, postsV, rws] at hj, fun j _ => rfl, fun _ _ _ _ => rfl, fun _ => rfl, FrV.refl⟩
  dsimp only at g1 g2 g3 g4 g5
  have hAm := hAl (Ss p).length
  have pmA : (A (Ss p).length).Perm (expS tm (Ss p)) := hS.2.2.filter _
  have hlen : (expS tm (Ss p)).length = (A (Ss p).length).length := pmA.length_eq.symm
  have g210 : ∀ z, vI (st2 U 210 p ((A (Ss p).length).length : Int)) 210 z = if z = p then ((A (Ss p).length).length : Int) else vI V 210 z := fun z => by
    rw [vI_st2, w32_nn (by omega), g4]
    simp
  have gU : ∀ j, gP (st2 U 210 p ((A (Ss p).length).length : Int)) j = gP U j := fun j => gP_ext (gk_st2 (by decide)) (vI_ne (by omega)) (vI_ne (by omega)) (vI_ne (by omega)) (vI_ne (by omega))
  refine ⟨st2 U 210 p ((A (Ss p).length).length : Int), ?_, sts_upd h ?_ (fun z hz hz2 => ⟨by rw [g210, if_neg hz], fun j hj => by rw [gU]; exact g3 z hz j hj⟩), g5.trans (FrV_st (mv3 (by decide) _))⟩
  · unfold f_X16_expire l_X16_expire_8
    rw [c200m]
    refine q2.trans ?_
    refine lpN_end (b := fun s : Int × Int × VV => b_X16_expire_8 (p : Int) s.1 s.2.1 s.2.2) hn2 ?_
    dsimp only
    unfold b_X16_expire_8 j_X16_expire_125
    rw [l2_n (by omega) (by decide), Option.bind_some, g4, hS.1, c200m, cadd, if_neg (by omega), s2_n (by omega) (by decide)]
    rfl
  · refine ⟨by rw [g210, if_pos rfl, hlen], okSt_filter hS.2.1, ?_⟩
    rw [hlen]
    have : postsV (st2 U 210 p ((A (Ss p).length).length : Int)) p (A (Ss p).length).length = A (Ss p).length := SrtM_rws (fun i hi => by
      rw [gU, g1 i hi]
      grind)
    rw [this]
    exact pmA
/-- the measure within a key -/
def omz (o d : Int) : Nat := o.toNat * 16 + d.toNat
theorem v_before {V : VV} {X Y : Nat} (hX : X < 6400) (hY : Y < 6400) (h1 : 0 ≤ vI V 212 X) (h2 : 0 ≤ vI V 213 X ∧ vI V 213 X < 16) (h3 : 0 ≤ vI V 212 Y) (h4 : 0 ≤ vI V 213 Y ∧ vI V 213 Y < 16) : f_X16_before (X : Int) (Y : Int) V = some (b2i (decide (omz (vI V 212 X) (vI V 213 X) < omz (vI V 212 Y) (vI V 213 Y)))) := by
  have hm : (omz (vI V 212 X) (vI V 213 X) < omz (vI V 212 Y) (vI V 213 Y)) ↔ (vI V 212 X < vI V 212 Y ∨ (vI V 212 X = vI V 212 Y ∧ vI V 213 X < vI V 213 Y)) := by
    unfold omz
    omega
  unfold f_X16_before j_X16_before_45 j_X16_before_49 j_X16_before_50
  simp (disch := omega) only [l2_n, Option.bind_some, w32_vI]
  rw [bz_e (Or.inl rfl), bz_e (Or.inr rfl)]
  by_cases c1 : vI V 212 X < vI V 212 Y
  · rw [if_pos c1, decide_eq_true (hm.mpr (Or.inl c1))]; rfl
  · rw [if_neg c1]
    by_cases c2 : vI V 212 X = vI V 212 Y
    · rw [if_pos c2]
      by_cases c3 : vI V 213 X < vI V 213 Y
      · rw [if_pos c3, decide_eq_true (hm.mpr (Or.inr ⟨c2, c3⟩))]; rfl
      · rw [if_neg c3, decide_eq_false (fun q => by have := hm.mp q; omega)]; rfl
    · rw [if_neg c2, decide_eq_false (fun q => by have := hm.mp q; omega)]; rfl
end VEXP
