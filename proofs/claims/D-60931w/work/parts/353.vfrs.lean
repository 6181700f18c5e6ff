/-! what is written by those that put bytes out -/
def PO (a i : Nat) : Prop := a = 188 ∨ (a = 156 ∧ i = 41)
def PB (a i : Nat) : Prop := a = 209 ∨ (a = 156 ∧ i = 64)
theorem lp_fr {σ ρ : Type} {b : σ → Option (σ ⊕ ρ)} (Inv : σ → Prop) (Q : ρ → Prop) (h1 : ∀ s s', Inv s → b s = some (.inl s') → Inv s') (h2 : ∀ s r, Inv s → b s = some (.inr r) → Q r) : ∀ n s r, Inv s → lpN b n s = some r → Q r
  | 0, s, r, _, h => by simp [lpN] at h
  | n + 1, s, r, hi, h => by
    unfold lpN at h
    cases hb : b s with
    | none => rw [hb] at h; simp at h
    | some x =>
      rw [hb] at h
      cases x with
      | inl s' => exact lp_fr Inv Q h1 h2 n s' r (h1 s s' hi hb) (by simpa using h)
      | inr r' =>
        have : r' = r := by simpa using h
        rw [← this]; exact h2 s r' hi hb
theorem xit_inl {σ ρ : Type} {x : Option ρ} {s : σ} : (xit x : Option (σ ⊕ ρ)) = some (.inl s) ↔ False := by
  cases x <;> simp [xit]
theorem xit_inr {σ ρ : Type} {x : Option ρ} {r : ρ} : (xit x : Option (σ ⊕ ρ)) = some (.inr r) ↔ x = some r := by
  cases x <;> simp [xit]
theorem cnt_inr {σ ρ : Type} {s : σ} {r : ρ} : (cnt s : Option (σ ⊕ ρ)) = some (.inr r) ↔ False := by simp [cnt]
theorem cnt_inl {σ ρ : Type} {s s' : σ} : (cnt s : Option (σ ⊕ ρ)) = some (.inl s') ↔ s = s' := by simp [cnt]
theorem s2_fr {P : Nat → Nat → Prop} {a n : Nat} {i v : Int} {V W : VV} (h : s2 a n i v V = some W) (hP : ∀ j, P a j) : FrS P V W := by
  unfold s2 at h
  split at h
  · rw [← Option.some.inj h]; exact FrS_st (hP _)
  · cases h
section FRO
variable {V W : VV} {x x1 x2 x3 : Int}
theorem byteOut_fr (h : f_X16_byteOut x V = some W) : FrS PO V W := by
  unfold f_X16_byteOut at h
  simp only [Option.bind_eq_some_iff, p2_e] at h
  obtain ⟨V1, h1, V2, h2, h3⟩ := h
  rw [← Option.some.inj h3, ← Option.some.inj h2]
  exact (s2_fr h1 (fun j => Or.inl rfl)).trans (FrS_st (Or.inr ⟨rfl, rfl⟩))
theorem keyOut_fr (h : f_X16_keyOut x1 x2 V = some W) : FrS PO V W := by
  unfold f_X16_keyOut l_X16_keyOut_2 at h
  refine lp_fr (b := fun s : Int × VV => b_X16_keyOut_2 x1 x2 s.1 s.2) (fun s => FrS PO V s.2) (fun W => FrS PO V W) ?_ ?_ FU (0, V) W FrS.refl h
  · intro s s' hi hb
    unfold b_X16_keyOut_2 at hb
    split at hb
    · simp only [Option.bind_eq_some_iff, cnt_inl] at hb
      obtain ⟨_, _, _, _, _, _, V1, h1, h2⟩ := hb
      rw [← h2]; exact hi.trans (byteOut_fr h1)
    · exact absurd hb (by rw [xit_inl]; exact id)
  · intro s r hi hb
    unfold b_X16_keyOut_2 at hb
    split at hb
    · simp only [Option.bind_eq_some_iff, cnt_inr] at hb
      obtain ⟨_, _, _, _, _, _, _, _, h2⟩ := hb
      exact h2.elim
    · rw [xit_inr] at hb
      rw [← Option.some.inj hb]; exact hi
theorem pairOut_fr (h : f_X16_pairOut x V = some W) : FrS PO V W := by
  unfold f_X16_pairOut at h
  simp only [Option.bind_eq_some_iff] at h
  obtain ⟨V1, h1, V2, h2, h3⟩ := h
  rw [← Option.some.inj h3]
  exact (byteOut_fr h1).trans (byteOut_fr h2)
theorem head_fr (h : f_X16_head x1 x2 x3 V = some W) : FrS PO V W := by
  unfold f_X16_head l_X16_head_14 at h
  simp only [Option.bind_eq_some_iff, p2_e] at h
  obtain ⟨V1, h1, V2, h2, h3⟩ := h
  have f1 : FrS PO V V2 := by
    rw [← Option.some.inj h1] at h2
    exact (FrS_st (Or.inr ⟨rfl, rfl⟩)).trans (byteOut_fr h2)
  refine lp_fr (b := fun s : Int × VV => b_X16_head_14 x1 x3 s.1 s.2) (fun s => FrS PO V s.2) (fun W => FrS PO V W) ?_ ?_ FU (24, V2) W f1 h3
  · intro s s' hi hb
    unfold b_X16_head_14 at hb
    split at hb
    · exact absurd hb (by rw [xit_inl]; exact id)
    · simp only [Option.bind_eq_some_iff, cnt_inl] at hb
      obtain ⟨V1, h1, h2⟩ := hb
      rw [← h2]; exact hi.trans (byteOut_fr h1)
  · intro s r hi hb
    unfold b_X16_head_14 at hb
    split at hb
    · rw [xit_inr] at hb
      unfold j_X16_head_33 at hb
      simp only [Option.bind_eq_some_iff] at hb
      obtain ⟨V1, h1, h2⟩ := hb
      rw [← Option.some.inj h2]; exact hi.trans (keyOut_fr h1)
    · simp only [Option.bind_eq_some_iff, cnt_inr] at hb
      obtain ⟨_, _, h2⟩ := hb
      exact h2.elim
theorem bodyByte_fr (h : f_X16_bodyByte x V = some W) : FrS PB V W := by
  unfold f_X16_bodyByte at h
  simp only [Option.bind_eq_some_iff, p2_e] at h
  obtain ⟨V1, h1, V2, h2, h3⟩ := h
  rw [← Option.some.inj h3, ← Option.some.inj h2]
  exact (s2_fr h1 (fun j => Or.inl rfl)).trans (FrS_st (Or.inr ⟨rfl, rfl⟩))
theorem bodyKey_fr (h : f_X16_bodyKey x1 x2 V = some W) : FrS PB V W := by
  unfold f_X16_bodyKey l_X16_bodyKey_7 at h
  simp only [Option.bind_eq_some_iff, p2_e] at h
  obtain ⟨V1, h1, h3⟩ := h
  have f1 : FrS PB V V1 := by rw [← Option.some.inj h1]; exact FrS_st (Or.inr ⟨rfl, rfl⟩)
  refine lp_fr (b := fun s : Int × VV => b_X16_bodyKey_7 x1 x2 s.1 s.2) (fun s => FrS PB V s.2) (fun W => FrS PB V W) ?_ ?_ FU (0, V1) W f1 h3
  · intro s s' hi hb
    unfold b_X16_bodyKey_7 at hb
    split at hb
    · simp only [Option.bind_eq_some_iff, cnt_inl] at hb
      obtain ⟨_, _, _, _, _, _, V1, h1, h2⟩ := hb
      rw [← h2]; exact hi.trans (bodyByte_fr h1)
    · exact absurd hb (by rw [xit_inl]; exact id)
  · intro s r hi hb
    unfold b_X16_bodyKey_7 at hb
    split at hb
    · simp only [Option.bind_eq_some_iff, cnt_inr] at hb
      obtain ⟨_, _, _, _, _, _, _, _, h2⟩ := hb
      exact h2.elim
    · rw [xit_inr] at hb
      rw [← Option.some.inj hb]; exact hi
end FRO
/-- a loop that may end early -/
theorem lp_inv2 {σ ρ : Type} {b : σ → Option (σ ⊕ ρ)} (Inv : Nat → σ → Prop) (Q : Option ρ → Prop) (m : Nat) (hs : ∀ i s, i < m → Inv i s → (∃ s', b s = some (.inl s') ∧ Inv (i + 1) s') ∨ ∃ x, b s = xit x ∧ Q x) (he : ∀ s, Inv m s → ∃ x, b s = xit x ∧ Q x) : ∀ n i s, i ≤ m → m - i < n → Inv i s → Q (lpN b n s)
  | 0, i, s, _, h2, _ => by omega
  | n + 1, i, s, h1, h2, h3 => by
    by_cases hi : i = m
    · subst hi
      obtain ⟨x, e, q⟩ := he s h3
      rw [lpN_xit e]; exact q
    · rcases hs i s (by omega) h3 with ⟨s', e, h4⟩ | ⟨x, e, q⟩
      · rw [lpN_cnt e]
        exact lp_inv2 Inv Q m hs he n (i + 1) s' (by omega) (by omega) h4
      · rw [lpN_xit e]; exact q
