/-! what is seen, what is lost -/
theorem fup_eq {α : Type} {f : Nat → α} {k : Nat} {v : α} : fup f k v k = v := if_pos rfl
theorem fup_ne {α : Type} {f : Nat → α} {k i : Nat} {v : α} (h : i ≠ k) : fup f k v i = f i := if_neg h
theorem fup_fup {α : Type} {f : Nat → α} {k : Nat} {v w : α} : fup (fup f k v) k w = fup f k w := by
  funext i
  unfold fup
  split <;> rfl
theorem fup_self {α : Type} {f : Nat → α} {k : Nat} : fup f k (f k) = f := by
  funext i
  unfold fup
  split
  · next h => rw [h]
  · rfl
theorem gk_fr {S : Nat → Bool} {V W : VV} {e q : Nat} (h : FrV S V W) (hm : ∀ i, S (mv e i) = false) : gk W e q = gk V e q := gk_ext (fun i _ => fv h (hm _))
def fnd (T : List Row) (key : Ky) : Option Row := T.find? (fun x => decide (x.1 = key))
theorem fnd_some {T : List Row} {x : Row} : (T.map (·.1)).Nodup → x ∈ T → fnd T x.1 = some x := by
  intro hn hx
  induction T with
  | nil => simp at hx
  | cons y l ih =>
    unfold fnd at ih ⊢
    rw [List.find?_cons]
    by_cases c : y.1 = x.1
    · rw [decide_eq_true c]
      rcases List.mem_cons.mp hx with rfl | hx
      · rfl
      · have : y.1 ∉ l.map (·.1) := (List.nodup_cons.mp (by simpa using hn)).1
        exact absurd (c ▸ List.mem_map.mpr ⟨x, hx, rfl⟩) this
    · rw [decide_eq_false c]
      rcases List.mem_cons.mp hx with rfl | hx
      · exact absurd rfl c
      · exact ih (List.nodup_cons.mp (by simpa using hn)).2 hx
theorem fnd_none {T : List Row} {key : Ky} (h : ∀ y, y ∈ T → y.1 ≠ key) : fnd T key = none := List.find?_eq_none.mpr (fun y hy => by simpa using h y hy)
/-- a key and an address are seen: the table, and whether the bucket is full, so that its first one may be asked -/
def seeT (k : Nat) (own key : Ky) (ad : Int) (T : List Row) : List Row × Bool :=
  if key = own then (T, false) else
  match fnd T key with
  | some x =>
    if x.2.2 = false then (if x.2.1 = ad then rmT T key ++ [x] else T, false)
    else if (T.filter (pr own (kc key own) false)).length < k then (rmT T key ++ [(key, ad, false)], false)
    else (if x.2.1 = ad then rmT T key ++ [x] else T, true)
  | none =>
    if (T.filter (pr own (kc key own) false)).length < k then (T ++ [(key, ad, false)], false)
    else ((if (T.filter (pr own (kc key own) true)).length = k then (match (T.filter (pr own (kc key own) true)).head? with | some y => rmT T y.1 | none => T) else T) ++ [(key, ad, true)], true)
def loseT (own key : Ky) (ad : Int) (T : List Row) : List Row :=
  match fnd T key with
  | none => T
  | some x =>
    if x.2.1 = ad then
      if x.2.2 = true then rmT T key
      else match ((rmT T key).filter (pr own (kc key own) true)).getLast? with
        | none => rmT T key
        | some y => rmT (rmT T key) y.1 ++ [(y.1, y.2.1, false)]
    else T
section VSEE
variable {V W : VV} {p i : Nat} {own : Nat → Ky} {Ts : Nat → List Row} {T' : List Row} {Z Z' : Nat} {x x' : Row} {s ad c : Int} {e n q k : Nat} {r pb : Bool}
theorem v_addRow (h : TabsV V own Ts Z) (hp : p < 32) (hl : (Ts p).length < 1100) (he : mA e n) (hq : q + 5 ≤ n) (hn : n ≤ 1000000) (hm : ∀ i, m2 (mv e i) = false) (hko : gk V e q ≠ own p) (hkn : ∀ y, y ∈ Ts p → y.1 ≠ gk V e q) (had : w32 ad = ad) (hZ : Z < 2147483647) : ∃ V', f_X16_addRow (p : Int) (e : Int) (q : Int) ad (kc (gk V e q) (own p)) (b2i r) V = some (((1100 * p + (Ts p).length : Nat) : Int), V') ∧ TabsV V' own (fup Ts p (Ts p ++ [(gk V e q, ad, r)])) (Z + 1) ∧ FrV m2 V V' := by
  have hT := h.2 p hp
  have h189 := hT.1
  have h42 := h.1
  have hb := b2i_v (b := r)
  have ne190 : e ≠ 190 := fun z => by have := hm 0; rw [z] at this; exact absurd this (by decide)
  have hc1 := kc_lo (gk V e q) (own p)
  have hc2 := kc_hi (gk V e q) (own p)
  obtain ⟨R, hR⟩ : ∃ R, R = 1100 * p + (Ts p).length := ⟨_, rfl⟩
  let V1 := st2 V 189 p (((Ts p).length + 1 : Nat) : Int)
  let V2 := kput V1 190 (5 * R) e q
  let V6 := st2 (st2 (st2 (st2 (st2 V2 191 R ad) 192 R (kc (gk V e q) (own p))) 193 R (b2i r)) 194 R (Z : Int)) 156 42 ((Z + 1 : Nat) : Int)
  have pu := e_put (V := V1) (p := 5 * R) (p' := q) m190 (by omega) (by decide) he hq hn (Or.inl (Ne.symm ne190))
  have run : f_X16_addRow (p : Int) (e : Int) (q : Int) ad (kc (gk V e q) (own p)) (b2i r) V = some (((1100 * p + (Ts p).length : Nat) : Int), V6) := by
    have e1 : (190 : Int) = ((190 : Nat) : Int) := rfl
    unfold f_X16_addRow f_X16_touch
    simp (disch := omega) only [l2_n, s2_n, Option.bind_some, h189, c1100m, cadd, cadd1, c5m, e1]
    rw [← hR]
    show (f_X16_put ((190 : Nat) : Int) ((5 * R : Nat) : Int) (e : Int) (q : Int) V1).bind _ = _
    rw [pu]
    have v1r : ∀ a j, a ≠ 189 → vI V1 a j = vI V a j := fun a j ha => vI_ne (by omega)
    simp (disch := omega) only [l2_n, s2_n, Option.bind_some, vI_ne, vI_kput, s2z_n, v1r, p2_e, v156, h42, cadd1]
    rfl
  have k2 : ∀ a j, a ≠ 190 → a ≠ 189 → vI V2 a j = vI V a j := fun a j h1 h2 => by
    show vI (kput (st2 _ _ _ _) _ _ _ _) _ _ = _
    rw [vI_kput h1, vI_ne (by omega)]
  have gk2 : ∀ j, gk V6 190 (5 * j) = if j = R then gk V e q else gk V 190 (5 * j) := by
    intro j
    have a0 : gk V6 190 (5 * j) = gk V2 190 (5 * j) := by
      show gk (st2 (st2 (st2 (st2 (st2 V2 _ _ _) _ _ _) _ _ _) _ _ _) _ _ _) _ _ = _
      rw [gk_st2 (by decide), gk_st2 (by decide), gk_st2 (by decide), gk_st2 (by decide), gk_st2 (by decide)]
    have a1 : ∀ a z, a ≠ 189 → gk V1 a z = gk V a z := fun a z ha => gk_st2 ha
    have ne189 : e ≠ 189 := fun z => by have := hm 0; rw [z] at this; exact absurd this (by decide)
    rw [a0]
    by_cases c : j = R
    · rw [if_pos c, c]
      show gk (kput V1 190 (5 * R) e q) 190 (5 * R) = _
      rw [gk_kput3, a1 e q ne189]
    · rw [if_neg c]
      show gk (kput V1 190 (5 * R) e q) 190 (5 * j) = _
      rw [gk_kput2 (by omega), a1 190 _ (by decide)]
  have v6 : ∀ a j, a ≠ 189 → a ≠ 190 → a ≠ 156 → (j ≠ R ∨ (a ≠ 191 ∧ a ≠ 192 ∧ a ≠ 193 ∧ a ≠ 194)) → vI V6 a j = vI V a j := by
    intro a j h1 h2 h3 h4
    show vI (st2 (st2 (st2 (st2 (st2 V2 _ _ _) _ _ _) _ _ _) _ _ _) _ _ _) _ _ = _
    rw [vI_ne (by omega), vI_ne (by omega), vI_ne (by omega), vI_ne (by omega), vI_ne (by omega), k2 a j h2 h1]
  have gold : ∀ j, j ≠ R → gR V6 j = gR V j := by
    intro j hj
    exact gR_ext (by rw [gk2, if_neg hj]) (v6 _ _ (by decide) (by decide) (by decide) (Or.inl hj)) (v6 _ _ (by decide) (by decide) (by decide) (Or.inl hj)) (v6 _ _ (by decide) (by decide) (by decide) (Or.inl hj)) (v6 _ _ (by decide) (by decide) (by decide) (Or.inl hj))
  have g189 : ∀ z, vI V6 189 z = if z = p then (((Ts p).length + 1 : Nat) : Int) else vI V 189 z := by
    intro z
    show vI (st2 (st2 (st2 (st2 (st2 V2 _ _ _) _ _ _) _ _ _) _ _ _) _ _ _) _ _ = _
    rw [vI_ne (by omega), vI_ne (by omega), vI_ne (by omega), vI_ne (by omega), vI_ne (by omega)]
    show vI (kput (st2 _ _ _ _) _ _ _ _) _ _ = _
    rw [vI_kput (by decide), vI_st2, w32_nn (by omega)]
    simp
  have gnew : gR V6 R = enc (own p) ((gk V e q, ad, r), (Z : Int)) := by
    have a1 : vI V6 191 R = ad := by
      show vI (st2 (st2 (st2 (st2 (st2 V2 _ _ _) _ _ _) _ _ _) _ _ _) _ _ _) _ _ = _
      rw [vI_ne (by omega), vI_ne (by omega), vI_ne (by omega), vI_ne (by omega), vI_eq rfl, had]
    have a2 : vI V6 192 R = kc (gk V e q) (own p) := by
      show vI (st2 (st2 (st2 (st2 (st2 V2 _ _ _) _ _ _) _ _ _) _ _ _) _ _ _) _ _ = _
      rw [vI_ne (by omega), vI_ne (by omega), vI_ne (by omega), vI_eq rfl, w32_id (by omega) (by omega)]
    have a3 : vI V6 193 R = b2i r := by
      show vI (st2 (st2 (st2 (st2 (st2 V2 _ _ _) _ _ _) _ _ _) _ _ _) _ _ _) _ _ = _
      rw [vI_ne (by omega), vI_ne (by omega), vI_eq rfl, w32_b2i]
    have a4 : vI V6 194 R = (Z : Int) := by
      show vI (st2 (st2 (st2 (st2 (st2 V2 _ _ _) _ _ _) _ _ _) _ _ _) _ _ _) _ _ = _
      rw [vI_ne (by omega), vI_eq rfl, w32_nn (by omega)]
    unfold gR enc
    rw [gk2, if_pos rfl, a1, a2, a3, a4]
  refine ⟨V6, run, tabs_upd h (by omega) ?_ (tab_add hT hl ⟨gk_ok V e q, had, hko⟩ hkn (by rw [g189, if_pos rfl]) (fun j hj => gold _ (by omega)) (by rw [← hR]; exact gnew)) (fun z hz hz2 => ⟨by rw [g189, if_neg hz], fun j hj => gold _ (by omega)⟩), ?_⟩
  · show vI (st2 _ 156 42 _) 156 42 = _
    rw [vI_eq rfl, w32_nn (by omega)]
  · exact ((((((FrV_st (mv2 (by decide) _)).trans (FrV_kput (mv2 (by decide)))).trans (FrV_st (mv2 (by decide) _))).trans (FrV_st (mv2 (by decide) _))).trans (FrV_st (mv2 (by decide) _))).trans (FrV_st (mv2 (by decide) _))).trans (FrV_st rfl)
/-- the first contact of a bucket that is full, unless a probe goes on -/
def SeenV (V : VV) (p : Nat) (own : Ky) (T : List Row) (c : Int) (pb : Bool) (res : Int) : Prop := if pb = true then res = -1 else ∃ i x s, i < T.length ∧ res = ((1100 * p + i : Nat) : Int) ∧ gR V (1100 * p + i) = enc own (x, s) ∧ x ∈ T ∧ (T.filter (pr own c false)).head? = some x
theorem v_s190 (h : TabsV V own Ts Z) (hp : p < 32) (hc : w32 c = c) (hpb : f_X16_probes (p : Int) c V = some (b2i pb)) (hne : (Ts p).filter (pr (own p) c false) ≠ []) : ∃ res, j_X16_seen_190 (p : Int) c V = some (res, V) ∧ SeenV V p (own p) (Ts p) c pb res := by
  unfold j_X16_seen_190 j_X16_seen_213 SeenV
  rw [hpb, Option.bind_some, w32_b2i]
  cases pb with
  | true => exact ⟨-1, by rw [if_neg (by decide)], by rw [if_pos rfl]⟩
  | false =>
    rw [if_pos (by decide)]
    have he := v_edge (r := false) (fi := true) (h.2 p hp) hp hc
    have e0 : b2i false = 0 := rfl
    have e1 : b2i true = 1 := rfl
    rw [e0, e1] at he
    rcases he with ⟨-, q⟩ | ⟨i, x, s, q1, q2, q3, q4, q5, q6⟩
    · exact absurd q hne
    · rw [q2]
      exact ⟨_, rfl, by rw [if_neg (by decide)]; exact ⟨i, x, s, q1, rfl, q3, q4, by rw [if_pos rfl] at q6; exact q6⟩⟩
end VSEE
