/-! a request is sent -/
def PG (a i : Nat) : Prop := mv a i = 1 ∨ mv a i = 5 ∨ PO a i
def RqsV (V : VV) (Rs : Nat → List Rq) (nx : Nat → Nat) : Prop := ∀ p, p < 32 → RqV V p (Rs p) (nx p)
theorem rws_getD {α : Type} {f : Nat → α} {n i : Nat} {d : α} (h : i < n) : (rws f n).getD i d = f i := by
  rw [List.getD_eq_getElem?_getD, List.getElem?_eq_getElem (by rw [rws_len]; exact h), rws_get]
  rfl
theorem mv1_w {a i : Nat} (h : mv a i = 1) : (a = 156 ∧ (i = 11 ∨ i = 12 ∨ i = 32 ∨ i = 33)) ∨ a = 162 ∨ (182 ≤ a ∧ a ≤ 187) := by
  unfold mv at h
  by_cases c : a = 156
  · rw [if_pos c] at h
    unfold mvS at h
    refine Or.inl ⟨c, ?_⟩
    split at h
    · assumption
    · split at h <;> try omega
      split at h <;> try omega
      split at h <;> omega
  · rw [if_neg c] at h
    unfold mvA at h
    split at h
    · omega
    · split at h <;> try omega
      split at h <;> try omega
      split at h <;> try omega
      split at h <;> try omega
      split at h <;> try omega
      split at h <;> omega
theorem mv1_i {a i : Nat} (h : (a = 156 ∧ (i = 11 ∨ i = 12 ∨ i = 32 ∨ i = 33)) ∨ a = 162 ∨ (182 ≤ a ∧ a ≤ 187)) : mv a i = 1 := by
  unfold mv mvS mvA
  rcases h with ⟨rfl, h⟩ | rfl | h
  · rw [if_pos rfl, if_pos h]
  · rfl
  · rw [if_neg (by omega), if_pos (by omega)]
theorem mv5_i {a i : Nat} (h : (165 ≤ a ∧ a ≤ 172) ∨ (197 ≤ a ∧ a ≤ 208)) : mv a i = 5 := by
  unfold mv mvA
  rw [if_neg (by omega), if_neg (by omega), if_neg (by omega), if_neg (by omega), if_neg (by omega), if_pos h]
section VGO
variable {V W : VV} {p s : Nat} {R : List Rq} {x y : Rq} {N : Nat} {own : Nat → Ky} {sd ps sn pu rf tl : Nat → Int} {st : Nat → Int} {tm lo : Int} {fl : List Dg} {L : Nat} {l : List Int}
theorem gQ_ext {r r' : Nat} (h : ∀ a, 197 < a → a < 208 → a ≠ 200 → vI W a r' = vI V a r) (hk : gk W 200 (5 * r') = gk V 200 (5 * r)) (hb : ∀ i, i < (vI V 207 r).toNat → vI W 208 (350 * r' + i) = vI V 208 (350 * r + i)) (ht : ∀ t, vI W 231 t = vI V 231 t) : gQ W r' = gQ V r := by
  unfold gQ
  rw [h 198 (by omega) (by omega) (by omega), h 199 (by omega) (by omega) (by omega), h 201 (by omega) (by omega) (by omega), h 202 (by omega) (by omega) (by omega), h 203 (by omega) (by omega) (by omega), h 204 (by omega) (by omega) (by omega), h 205 (by omega) (by omega) (by omega), h 206 (by omega) (by omega) (by omega), h 207 (by omega) (by omega) (by omega), hk, ht, rws_congr hb]
theorem PV_ag (h : PV V N own sd ps sn pu rf tl) (f : ∀ a i, (165 ≤ a ∧ a ≤ 172 ∧ a ≠ 171) ∨ (a = 156 ∧ i = 13) → vI W a i = vI V a i) : PV W N own sd ps sn pu rf tl := by
  obtain ⟨h1, h2, h3, h4⟩ := h
  refine ⟨by rw [f _ _ (by omega)]; exact h1, h2, fun p hp => ?_, fun i hi => by rw [f _ _ (by omega)]; exact h4 i hi⟩
  rw [f 166 p (by omega), f 167 p (by omega), f 168 p (by omega), f 169 p (by omega), f 170 p (by omega), gk_ext (fun i _ => f 165 _ (by omega))]
  exact h3 p hp
theorem v_sideOf (h : PV V N own sd ps sn pu rf tl) {t : Int} (ht : w32 t = t) : f_X16_sideOf t V = some (sdO N sd t) := by
  unfold f_X16_sideOf sdO
  rw [v_isPeer h.1 ht, Option.bind_some, w32_b2i]
  by_cases c : 0 ≤ t ∧ t < (N : Int)
  · have hN := h.2.1
    have e : t = ((t.toNat : Nat) : Int) := by omega
    rw [if_neg (by rw [b2i_0]; simp [c.1, c.2]), if_pos c]
    have : l2 166 32 t V = some (sd t.toNat) := by
      rw [e, l2_n (by omega) (by decide), (h.2.2.1 t.toNat (by omega)).2.1, Int.toNat_natCast]
    first
      | exact this
      | (rw [this]; rfl)
  · rw [if_pos (by rw [b2i_0]; simp; omega), if_neg c]
    try rfl
end VGO
