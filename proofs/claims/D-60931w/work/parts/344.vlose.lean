section VLOSE
variable {V W : VV} {p i : Nat} {own : Nat → Ky} {Ts : Nat → List Row} {T' : List Row} {Z Z' : Nat} {x x' y : Row} {s ad c : Int} {e n q k : Nat} {r pb : Bool}
theorem v_promote (h : TabsV V own Ts Z) (hp : p < 32) (hi : i < (Ts p).length) (hx : gR V (1100 * p + i) = enc (own p) (y, s)) (hxT : y ∈ Ts p) (hZ : Z < 2147483647) : ∃ V', ((s2z 193 35200 ((1100 * p + i : Nat) : Int) 0 V).bind fun V2 => (f_X16_touch ((1100 * p + i : Nat) : Int) V2).bind fun V3 => some V3) = some V' ∧ TabsV V' own (fup Ts p (rmT (Ts p) y.1 ++ [(y.1, y.2.1, false)])) (Z + 1) ∧ FrV m2 V V' := by
  have hT := h.2 p hp
  have hl := hT.2.1.1
  have h42 := h.1
  let V' := st2 (st2 (st2 V 193 (1100 * p + i) 0) 194 (1100 * p + i) (Z : Int)) 156 42 ((Z + 1 : Nat) : Int)
  have vn : ∀ a j, ¬ (a = 193 ∧ j = 1100 * p + i) → ¬ (a = 194 ∧ j = 1100 * p + i) → ¬ (a = 156 ∧ j = 42) → vI V' a j = vI V a j := fun a j h1 h2 h3 => by
    show vI (st2 (st2 (st2 _ _ _ _) _ _ _) _ _ _) _ _ = _
    rw [vI_ne h3, vI_ne h2, vI_ne h1]
  have gn : ∀ j, gk V' 190 j = gk V 190 j := fun j => gk_ext (fun z _ => vn _ _ (by omega) (by omega) (by omega))
  have g1 : ∀ r, gR V' r = if r = 1100 * p + i then enc (own p) ((y.1, y.2.1, false), (Z : Int)) else gR V r := by
    intro r
    by_cases c : r = 1100 * p + i
    · rw [if_pos c, c]
      have e3 : vI V' 193 (1100 * p + i) = 0 := by
        show vI (st2 (st2 (st2 _ _ _ _) _ _ _) _ _ _) _ _ = _
        rw [vI_ne (by omega), vI_ne (by omega), vI_eq rfl]; rfl
      have e4 : vI V' 194 (1100 * p + i) = (Z : Int) := by
        show vI (st2 (st2 (st2 _ _ _ _) _ _ _) _ _ _) _ _ = _
        rw [vI_ne (by omega), vI_eq rfl, w32_nn (by omega)]
      unfold gR
      rw [e4, e3, gn, vn 191 _ (by omega) (by omega) (by omega), vn 192 _ (by omega) (by omega) (by omega)]
      have hx' := hx
      unfold gR at hx'
      simp only [enc, Prod.mk.injEq] at hx' ⊢
      exact ⟨hx'.1, hx'.2.1, hx'.2.2.1, rfl, trivial⟩
    · rw [if_neg c]
      exact gR_ext (gn _) (vn _ _ (by omega) (by omega) (by omega)) (vn _ _ (by omega) (by omega) (by omega)) (vn _ _ (by omega) (by omega) (by omega)) (vn _ _ (by omega) (by omega) (by omega))
  refine ⟨V', ?_, tabs_upd h (by omega) ?_ (tab_upd (x' := (y.1, y.2.1, false)) hT hi hx hxT rfl (hT.2.1.2.2 y hxT).2.1 (vn _ _ (by omega) (by omega) (by omega)) (fun j hj => ?_)) (fun q hq hq2 => ⟨vn _ _ (by omega) (by omega) (by omega), fun j hj => ?_⟩), ?_⟩
  · unfold f_X16_touch
    simp (disch := omega) only [s2_n, s2z_n, Option.bind_some, p2_e, v156, vI_ne, h42, cadd1]
    rfl
  · show vI (st2 _ 156 42 _) 156 42 = _
    rw [vI_eq rfl, w32_nn (by omega)]
  · rw [g1]
    by_cases c : j = i
    · rw [if_pos c, if_pos (by omega)]
    · rw [if_neg c, if_neg (by omega)]
  · rw [g1, if_neg (by omega)]
  · exact ((FrV_st (mv2 (by decide) _)).trans (FrV_st (mv2 (by decide) _))).trans (FrV_st rfl)
theorem v_lose (h : TabsV V own Ts Z) (hp : p < 32) (he : mA e n) (hq : q + 5 ≤ n) (hn : n ≤ 1000000) (had : w32 ad = ad) (hZ : Z < 2147483647) :
    ∃ V' Z', f_X16_lose (p : Int) (e : Int) (q : Int) ad V = some V' ∧ TabsV V' own (fup Ts p (loseT (own p) (gk V e q) ad (Ts p))) Z' ∧ Z ≤ Z' ∧ Z' ≤ Z + 1 ∧ FrV m2 V V' := by
  have hT := h.2 p hp
  have hok := hT.2.1
  obtain ⟨key, hkey⟩ : ∃ key, key = gk V e q := ⟨_, rfl⟩
  rw [← hkey]
  unfold f_X16_lose j_X16_lose_26 j_X16_lose_88
  rcases v_rowWith hT hp he hq hn with ⟨i, hi, e1, e2⟩ | ⟨e1, e2⟩
  · obtain ⟨x, s, hxT, hx, -⟩ := tab_slot hT hi
    have hl := hok.1
    have hxk : x.1 = key := by
      have := congrArg (fun z => z.1) hx
      have this : gk V 190 (5 * (1100 * p + i)) = x.1 := this
      rw [← this, e2, hkey]
    have hx191 : vI V 191 (1100 * p + i) = x.2.1 := congrArg (fun z => z.2.1) hx
    have hx192 : vI V 192 (1100 * p + i) = kc key (own p) := by rw [← hxk]; exact congrArg (fun z => z.2.2.1) hx
    have hx193 : vI V 193 (1100 * p + i) = b2i x.2.2 := congrArg (fun z => z.2.2.2.1) hx
    have hf : fnd (Ts p) key = some x := by rw [← hxk]; exact fnd_some hok.2.1 hxT
    have hcw : w32 (kc key (own p)) = kc key (own p) := w32_id (by have := kc_lo key (own p); omega) (by have := kc_hi key (own p); omega)
    have es : loseT (own p) key ad (Ts p) = if x.2.1 = ad then (if x.2.2 = true then rmT (Ts p) key else match ((rmT (Ts p) key).filter (pr (own p) (kc key (own p)) true)).getLast? with | none => rmT (Ts p) key | some y => rmT (rmT (Ts p) key) y.1 ++ [(y.1, y.2.1, false)]) else Ts p := by
      unfold loseT
      rw [hf]
      try rfl
    rw [e1, Option.bind_some, w32_nn (by omega), if_neg (by omega), l2_n (by omega) (by decide), Option.bind_some, w32_vI, hx191, had, es]
    by_cases ca : x.2.1 = ad
    · rw [if_pos ca, if_pos ca, l2_n (by omega) (by decide), Option.bind_some, l2_n (by omega) (by decide), Option.bind_some, hx192, hx193]
      obtain ⟨V1, t1, t2, t3⟩ := v_removeRow h hp hi hx hxT
      rw [hxk] at t2
      rw [t1, Option.bind_some, w32_b2i]
      by_cases cr : x.2.2 = true
      · rw [if_pos cr, if_neg (by rw [cr]; decide)]
        exact ⟨V1, Z, rfl, t2, by omega, by omega, t3⟩
      · rw [if_neg cr, if_pos (by rw [b2i_0]; simpa using cr)]
        have hed := v_edge (r := true) (fi := false) (t2.2 p hp) hp hcw
        rw [fup_eq] at hed
        rcases hed with ⟨z1, z⟩ | ⟨i, y, s, q1, q2, q3, q4, q5, q6⟩
        · have z1 : f_X16_edge (p : Int) (kc key (own p)) 1 0 V1 = some (-1) := z1
          rw [z1, Option.bind_some, w32_m1, if_pos (by decide), z]
          exact ⟨V1, Z, rfl, t2, by omega, by omega, t3⟩
        · have q2 : f_X16_edge (p : Int) (kc key (own p)) 1 0 V1 = some ((1100 * p + i : Nat) : Int) := q2
          rw [if_neg (by decide)] at q6
          have hl1 := (t2.2 p hp).2.1.1
          rw [fup_eq] at hl1
          rw [q2, Option.bind_some, w32_nn (by omega), if_neg (by omega), q6]
          obtain ⟨V2, u1, u2, u3⟩ := v_promote t2 hp (by rw [fup_eq]; exact q1) q3 (by rw [fup_eq]; exact q4) hZ
          rw [fup_eq, fup_fup] at u2
          exact ⟨V2, Z + 1, u1, u2, by omega, by omega, t3.trans u3⟩
    · rw [if_neg ca, if_neg ca]
      exact ⟨V, Z, rfl, by rw [fup_self]; exact h, by omega, by omega, FrV.refl⟩
  · rw [e1, Option.bind_some, w32_m1, if_pos (by decide)]
    have hnk : ∀ y, y ∈ Ts p → y.1 ≠ key := by
      intro y hy z
      obtain ⟨i, s, hi, hg⟩ := tab_row hT hy
      refine e2 i hi ?_
      have := congrArg (fun z => z.1) hg
      have this : gk V 190 (5 * (1100 * p + i)) = y.1 := this
      rw [this, z, hkey]
    have es : loseT (own p) key ad (Ts p) = Ts p := by
      unfold loseT
      rw [fnd_none hnk]
    rw [es]
    exact ⟨V, Z, rfl, by rw [fup_self]; exact h, by omega, by omega, FrV.refl⟩
end VLOSE
