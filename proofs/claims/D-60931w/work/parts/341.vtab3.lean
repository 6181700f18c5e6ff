/-! tables of the reference: rows that come, go, are touched -/
def m2 : Nat → Bool := fun m => m == 2
theorem FrV_kput {S : Nat → Bool} {V : VV} {e p e' p' : Nat} (h : ∀ i, S (mv e i) = true) : FrV S V (kput V e p e' p') := fun b j hb => by
  unfold kput
  rw [if_neg (fun q => by rw [q.1, h j] at hb; cases hb)]
theorem mv2 {a : Nat} (h : 189 ≤ a ∧ a ≤ 194) (i : Nat) : m2 (mv a i) = true := by
  have : a = 189 ∨ a = 190 ∨ a = 191 ∨ a = 192 ∨ a = 193 ∨ a = 194 := by omega
  rcases this with rfl | rfl | rfl | rfl | rfl | rfl <;> rfl
theorem gR_ext {V W : VV} {r r' : Nat} (h0 : gk W 190 (5 * r') = gk V 190 (5 * r)) (h1 : vI W 191 r' = vI V 191 r) (h2 : vI W 192 r' = vI V 192 r) (h3 : vI W 193 r' = vI V 193 r) (h4 : vI W 194 r' = vI V 194 r) : gR W r' = gR V r := by
  unfold gR
  rw [h0, h1, h2, h3, h4]
section VTAB3
variable {V W : VV} {p i : Nat} {own : Nat → Ky} {Ts : Nat → List Row} {T' : List Row} {Z Z' : Nat} {x x' : Row} {s : Int} {e n q : Nat}
theorem tabs_upd (h : TabsV V own Ts Z) (hz : Z ≤ Z') (h42 : vI W 156 42 = (Z' : Int)) (hp : TabV W p (own p) T' Z') (ho : ∀ q, q ≠ p → q < 32 → vI W 189 q = vI V 189 q ∧ ∀ j, j < 1100 → gR W (1100 * q + j) = gR V (1100 * q + j)) : TabsV W own (fup Ts p T') Z' := by
  refine ⟨h42, fun q hq => ?_⟩
  unfold fup
  by_cases c : q = p
  · rw [if_pos c, c]; exact hp
  · rw [if_neg c]
    exact tab_ag (h.2 q hq) hz (ho q c hq).1 (ho q c hq).2
theorem v_touch (h : TabsV V own Ts Z) (hp : p < 32) (hi : i < (Ts p).length) (hx : gR V (1100 * p + i) = enc (own p) (x, s)) (hxT : x ∈ Ts p) (hZ : Z < 2147483647) : ∃ V', f_X16_touch ((1100 * p + i : Nat) : Int) V = some V' ∧ TabsV V' own (fup Ts p (rmT (Ts p) x.1 ++ [x])) (Z + 1) ∧ FrV m2 V V' := by
  have hT := h.2 p hp
  have hl := hT.2.1.1
  have h42 := h.1
  let V' := st2 (st2 V 194 (1100 * p + i) (Z : Int)) 156 42 ((Z + 1 : Nat) : Int)
  have g1 : ∀ r, gR V' r = if r = 1100 * p + i then enc (own p) (x, (Z : Int)) else gR V r := by
    intro r
    by_cases c : r = 1100 * p + i
    · rw [if_pos c, c]
      have e4 : vI V' 194 (1100 * p + i) = (Z : Int) := by
        show vI (st2 (st2 _ _ _ _) _ _ _) _ _ = _
        rw [vI_ne (by omega), vI_eq rfl, w32_nn (by omega)]
      unfold gR
      rw [e4]
      have e0 : gk V' 190 (5 * (1100 * p + i)) = gk V 190 (5 * (1100 * p + i)) := by
        show gk (st2 (st2 _ _ _ _) _ _ _) _ _ = _
        rw [gk_st2 (by decide), gk_st2 (by decide)]
      have e1 : ∀ a, a ≠ 194 → a ≠ 156 → ∀ j, vI V' a j = vI V a j := fun a h1 h2 j => by
        show vI (st2 (st2 _ _ _ _) _ _ _) _ _ = _
        rw [vI_ne (by omega), vI_ne (by omega)]
      rw [e0, e1 191 (by decide) (by decide), e1 192 (by decide) (by decide), e1 193 (by decide) (by decide)]
      have hx' := hx
      unfold gR at hx'
      simp only [enc, Prod.mk.injEq] at hx' ⊢
      exact ⟨hx'.1, hx'.2.1, hx'.2.2.1, hx'.2.2.2.1, trivial⟩
    · rw [if_neg c]
      refine gR_ext ?_ ?_ ?_ ?_ ?_
      · show gk (st2 (st2 _ _ _ _) _ _ _) _ _ = _
        rw [gk_st2 (by decide), gk_st2 (by decide)]
      all_goals
        show vI (st2 (st2 _ _ _ _) _ _ _) _ _ = _
        rw [vI_ne (by omega), vI_ne (by omega)]
  have g189 : ∀ q, vI V' 189 q = vI V 189 q := fun q => by
    show vI (st2 (st2 _ _ _ _) _ _ _) _ _ = _
    rw [vI_ne (by omega), vI_ne (by omega)]
  refine ⟨V', ?_, tabs_upd h (by omega) ?_ (tab_upd hT hi hx hxT rfl (hT.2.1.2.2 x hxT).2.1 (g189 p) (fun j hj => ?_)) (fun q hq hq2 => ⟨g189 q, fun j hj => ?_⟩), ?_⟩
  · unfold f_X16_touch
    simp (disch := omega) only [s2_n, Option.bind_some, p2_e, v156, vI_ne, h42, cadd1]
    rfl
  · show vI (st2 _ 156 42 _) 156 42 = _
    rw [vI_eq rfl, w32_nn (by omega)]
  · rw [g1]
    by_cases c : j = i
    · rw [if_pos c, if_pos (by omega)]
    · rw [if_neg c, if_neg (by omega)]
  · rw [g1, if_neg (by omega)]
  · exact (FrV_st (mv2 (by decide) _)).trans (FrV_st rfl)
theorem v_removeRow (h : TabsV V own Ts Z) (hp : p < 32) (hi : i < (Ts p).length) (hx : gR V (1100 * p + i) = enc (own p) (x, s)) (hxT : x ∈ Ts p) : ∃ V', f_X16_removeRow (p : Int) ((1100 * p + i : Nat) : Int) V = some V' ∧ TabsV V' own (fup Ts p (rmT (Ts p) x.1)) Z ∧ FrV m2 V V' := by
  have hT := h.2 p hp
  have hl := hT.2.1.1
  have h189 := hT.1
  obtain ⟨y, t, hyT, hy, -⟩ := tab_slot hT (i := (Ts p).length - 1) (by omega)
  obtain ⟨L, hLd⟩ : ∃ L, L = 1100 * p + ((Ts p).length - 1) := ⟨_, rfl⟩
  obtain ⟨r, hrd⟩ : ∃ r, r = 1100 * p + i := ⟨_, rfl⟩
  let V1 := st2 V 189 p (((Ts p).length - 1 : Nat) : Int)
  let V2 := kput V1 190 (5 * r) 190 (5 * L)
  let V3 := st2 V2 191 r (vI V 191 L)
  let V4 := st2 V3 192 r (vI V 192 L)
  let V5 := st2 V4 193 r (vI V 193 L)
  let V6 := st2 V5 194 r (vI V 194 L)
  have b193 : vI V 193 L = 0 ∨ vI V 193 L = 1 := by
    have := congrArg (fun z => z.2.2.2.1) hy
    have this : vI V 193 L = b2i y.2.2 := by rw [hLd]; exact this
    rw [this]; exact b2i_v
  have k2 : ∀ a j, a ≠ 190 → a ≠ 189 → vI V2 a j = vI V a j := fun a j h1 h2 => by
    show vI (kput (st2 _ _ _ _) _ _ _ _) _ _ = _
    rw [vI_kput h1, vI_ne (by omega)]
  have run : f_X16_removeRow (p : Int) ((1100 * p + i : Nat) : Int) V = some V6 := by
    unfold f_X16_removeRow j_X16_removeRow_88
    have n1 : ((Ts p).length : Int) - 1 = (((Ts p).length - 1 : Nat) : Int) := by omega
    have pu := e_put (V := V1) (p := 5 * r) (p' := 5 * L) m190 (by omega) (by decide) m190 (by omega) (by decide) (by omega)
    have e1 : (190 : Int) = ((190 : Nat) : Int) := rfl
    simp (disch := omega) only [l2_n, s2_n, Option.bind_some, h189, n1, vI_eq, w32_nn, c1100m, cadd, c5m, e1]
    rw [← hLd, ← hrd]
    show (f_X16_put ((190 : Nat) : Int) ((5 * r : Nat) : Int) ((190 : Nat) : Int) ((5 * L : Nat) : Int) V1).bind _ = _
    rw [pu]
    have v1r : ∀ a j, a ≠ 189 → vI V1 a j = vI V a j := fun a j ha => vI_ne (by omega)
    simp (disch := omega) only [l2_n, s2_n, Option.bind_some, vI_ne, vI_kput, s2z_n, v1r]
    rfl
  have k6 : ∀ a j, a ≠ 191 → a ≠ 192 → a ≠ 193 → a ≠ 194 → vI V6 a j = vI V2 a j := fun a j h1 h2 h3 h4 => by
    show vI (st2 (st2 (st2 (st2 V2 _ _ _) _ _ _) _ _ _) _ _ _) _ _ = _
    rw [vI_ne (by omega), vI_ne (by omega), vI_ne (by omega), vI_ne (by omega)]
  have gk6 : ∀ j, gk V6 190 j = gk V2 190 j := fun j => gk_ext (fun k _ => k6 190 _ (by decide) (by decide) (by decide) (by decide))
  have gk2 : ∀ j, gk V2 190 (5 * j) = if j = r then gk V 190 (5 * L) else gk V 190 (5 * j) := by
    intro j
    have a1 : ∀ z, gk V1 190 z = gk V 190 z := fun z => gk_st2 (by decide)
    by_cases c : j = r
    · rw [if_pos c, c]
      show gk (kput V1 190 (5 * r) 190 (5 * L)) 190 (5 * r) = _
      rw [gk_kput3, a1]
    · rw [if_neg c]
      show gk (kput V1 190 (5 * r) 190 (5 * L)) 190 (5 * j) = _
      rw [gk_kput2 (by omega), a1]
  have g6 : ∀ j, gR V6 j = if j = r then gR V L else gR V j := by
    intro j
    have r1 : vI V6 191 j = if j = r then vI V 191 L else vI V 191 j := by
      show vI (st2 (st2 (st2 (st2 V2 _ _ _) _ _ _) _ _ _) _ _ _) _ _ = _
      rw [vI_ne (by omega), vI_ne (by omega), vI_ne (by omega), vI_st2, k2 191 j (by decide) (by decide), w32_vI]
      simp
    have r2 : vI V6 192 j = if j = r then vI V 192 L else vI V 192 j := by
      show vI (st2 (st2 (st2 (st2 V2 _ _ _) _ _ _) _ _ _) _ _ _) _ _ = _
      rw [vI_ne (by omega), vI_ne (by omega), vI_st2, vI_ne (by omega), k2 192 j (by decide) (by decide), w32_vI]
      simp
    have r3 : vI V6 193 j = if j = r then vI V 193 L else vI V 193 j := by
      show vI (st2 (st2 (st2 (st2 V2 _ _ _) _ _ _) _ _ _) _ _ _) _ _ = _
      rw [vI_ne (by omega), vI_st2, vI_ne (by omega), vI_ne (by omega), k2 193 j (by decide) (by decide), w32_vI]
      simp
    have r4 : vI V6 194 j = if j = r then vI V 194 L else vI V 194 j := by
      show vI (st2 (st2 (st2 (st2 V2 _ _ _) _ _ _) _ _ _) _ _ _) _ _ = _
      rw [vI_st2, vI_ne (by omega), vI_ne (by omega), vI_ne (by omega), k2 194 j (by decide) (by decide), w32_vI]
      simp
    by_cases c : j = r
    · rw [if_pos c] at r1 r2 r3 r4 ⊢
      exact gR_ext (by rw [gk6, gk2, if_pos c]) r1 r2 r3 r4
    · rw [if_neg c] at r1 r2 r3 r4 ⊢
      exact gR_ext (by rw [gk6, gk2, if_neg c]) r1 r2 r3 r4
  have g189 : ∀ q, vI V6 189 q = if q = p then (((Ts p).length - 1 : Nat) : Int) else vI V 189 q := by
    intro q
    rw [k6 189 q (by decide) (by decide) (by decide) (by decide)]
    show vI (kput (st2 _ _ _ _) _ _ _ _) _ _ = _
    rw [vI_kput (by decide), vI_st2, w32_nn (by omega)]
    simp
  refine ⟨V6, run, tabs_upd h (Nat.le_refl _) ?_ (tab_del hT hi hx hxT (by rw [g189, if_pos rfl]) (fun j hj => ?_)) (fun q hq hq2 => ⟨by rw [g189, if_neg hq], fun j hj => ?_⟩), ?_⟩
  · rw [k6 156 42 (by decide) (by decide) (by decide) (by decide), k2 156 42 (by decide) (by decide)]
    exact h.1
  · rw [g6]
    by_cases c : j = i
    · rw [if_pos c, if_pos (by omega), hLd]
    · rw [if_neg c, if_neg (by omega)]
  · rw [g6, if_neg (by omega)]
  · exact (((((FrV_st (mv2 (by decide) _)).trans (FrV_kput (mv2 (by decide)))).trans (FrV_st (mv2 (by decide) _))).trans (FrV_st (mv2 (by decide) _))).trans (FrV_st (mv2 (by decide) _))).trans (FrV_st (mv2 (by decide) _))
end VTAB3
