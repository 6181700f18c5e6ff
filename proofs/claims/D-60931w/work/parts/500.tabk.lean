/-! the keys of tables -/
theorem nodup_le {α : Type} [DecidableEq α] : ∀ {l m : List α}, l.Nodup → (∀ x, x ∈ l → x ∈ m) → l.length ≤ m.length
  | [], _, _, _ => Nat.zero_le _
  | a :: l, m, h, hs => by
    have ha : a ∈ m := hs a (List.mem_cons_self)
    obtain ⟨h1, h2⟩ := List.nodup_cons.mp h
    have := nodup_le (m := m.erase a) h2 (fun x hx => (List.mem_erase_of_ne (fun e : x = a => h1 (by rw [← e]; exact hx))).mpr (hs x (List.mem_cons_of_mem _ hx)))
    rw [List.length_erase_of_mem ha] at this
    have : 0 < m.length := List.length_pos_of_mem ha
    rw [List.length_cons]; omega
def okTK (KL : List Ky) (T : List Row) : Prop := (T.map (·.1)).Nodup ∧ ∀ x, x ∈ T → x.1 ∈ KL ∧ 0 ≤ x.2.1 ∧ x.2.1 < 32
section TABK
variable {KL : List Ky} {T : List Row} {own key : Ky} {ad : Int} {k : Nat} {x : Row}
theorem tk_len (h : okTK KL T) : T.length ≤ KL.length := by
  have := nodup_le h.1 (fun y hy => by
    obtain ⟨x, hx, e⟩ := List.mem_map.mp hy
    rw [← e]; exact (h.2 x hx).1)
  rw [List.length_map] at this; exact this
theorem tk_rm (h : okTK KL T) : okTK KL (rmT T key) := ⟨(h.1).sublist ((List.filter_sublist).map _), fun x hx => h.2 x (List.mem_filter.mp hx).1⟩
theorem tk_add (h : okTK KL T) (hx : x.1 ∈ KL ∧ 0 ≤ x.2.1 ∧ x.2.1 < 32) (hn : ∀ y, y ∈ T → y.1 ≠ x.1) : okTK KL (T ++ [x]) := by
  refine ⟨?_, fun y hy => ?_⟩
  · rw [List.map_append, List.nodup_append]
    refine ⟨h.1, by simp, fun a ha b hb => ?_⟩
    obtain ⟨y, hy, e⟩ := List.mem_map.mp ha
    have eb : b = x.1 := by simpa using hb
    rw [← e, eb]; exact hn y hy
  · rcases List.mem_append.mp hy with z | z
    · exact h.2 y z
    · rw [List.mem_singleton.mp z]; exact hx
theorem rm_ne : ∀ y, y ∈ rmT T key → y.1 ≠ key := fun y hy => by
  have := (List.mem_filter.mp hy).2
  exact of_decide_eq_true this
theorem fnd_mem (h : fnd T key = some x) : x ∈ T ∧ x.1 = key := ⟨List.mem_of_find?_eq_some h, by have := List.find?_some h; simpa using this⟩
theorem fnd_no (h : fnd T key = none) : ∀ y, y ∈ T → y.1 ≠ key := fun y hy => by have := List.find?_eq_none.mp h y hy; simpa using this
theorem tk_see (h : okTK KL T) (hk : key ∈ KL) (ha : 0 ≤ ad ∧ ad < 32) : okTK KL (seeT k own key ad T).1 := by
  unfold seeT
  split
  · exact h
  · cases hf : fnd T key with
    | some x =>
      dsimp only
      have hx := fnd_mem hf
      have rx : ∀ (r : Row), r.1 = key → r.1 ∈ KL ∧ 0 ≤ r.2.1 ∧ r.2.1 < 32 → okTK KL (rmT T key ++ [r]) := fun r e hr => tk_add (tk_rm h) hr (fun y hy => by rw [e]; exact rm_ne y hy)
      split
      · split
        · exact rx x hx.2 (h.2 x hx.1)
        · exact h
      · split
        · exact rx (key, ad, false) rfl ⟨hk, ha⟩
        · show okTK KL (if x.2.1 = ad then rmT T key ++ [x] else T)
          split
          · exact rx x hx.2 (h.2 x hx.1)
          · exact h
    | none =>
      dsimp only
      have hn := fnd_no hf
      split
      · exact tk_add h ⟨hk, ha⟩ hn
      · show okTK KL ((if (T.filter (pr own (kc key own) true)).length = k then (match (T.filter (pr own (kc key own) true)).head? with | some y => rmT T y.1 | none => T) else T) ++ [(key, ad, true)])
        split
        · cases hh : (T.filter (pr own (kc key own) true)).head? with
          | some y => exact tk_add (tk_rm h) ⟨hk, ha⟩ (fun z hz => hn z (List.mem_filter.mp hz).1)
          | none => exact tk_add h ⟨hk, ha⟩ hn
        · exact tk_add h ⟨hk, ha⟩ hn
theorem tk_lose (h : okTK KL T) : okTK KL (loseT own key ad T) := by
  unfold loseT
  cases hf : fnd T key with
  | none => exact h
  | some x =>
    dsimp only
    split
    · split
      · exact tk_rm h
      · cases hl : ((rmT T key).filter (pr own (kc key own) true)).getLast? with
        | none => exact tk_rm h
        | some y =>
          have hy : y ∈ rmT T key := (List.mem_filter.mp (List.mem_of_getLast? hl)).1
          exact tk_add (tk_rm (tk_rm h)) ((tk_rm h).2 y hy) rm_ne
    · exact h
end TABK
