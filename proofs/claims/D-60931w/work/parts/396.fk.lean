/-! frames by modules: cells of the modules of S may change, all others stay -/
def FK (S : Nat → Bool) (M M' : MM) : Prop := ExA (fun q => S (mo M q) = true) M M'
theorem mo_cl {M : MM} {q c t : Nat} (h : kd M q = (c, t)) (h1 : c < 64) (h2 : ¬ (c = 3 ∧ t = 1)) : mo M q = moC c t := by
  unfold mo moO
  rw [h]
  simp only
  rw [if_pos h1, if_neg h2]
theorem mo_cl1 {M : MM} {q c : Nat} (h : (kd M q).1 = c) (h1 : c < 64) (h2 : c ≠ 3 ∧ c ≠ 4 ∧ c ≠ 5 ∧ c ≠ 10) : mo M q = mC c := by
  rw [mo_cl (M := M) (q := q) (c := c) (t := (kd M q).2) (by rw [← h]) h1 (by omega)]
  unfold moC
  rw [if_neg (by omega)]
theorem mo_ar {M : MM} {q k l : Nat} (h : kd M q = (k, l)) (h1 : 64 ≤ k) (h2 : k ≠ 64 ∧ k ≠ 113 ∧ k ≠ 81 ∧ k ≠ 320 ∧ k ≠ 97 ∧ k ≠ 336 ∧ k ≠ 352) : mo M q = moA k := by
  unfold mo
  rw [h]
  simp only
  rw [if_neg (by omega), if_neg (by omega), if_neg (by omega), if_neg (by omega)]
/-- words of a key, bytes of a packet -/
theorem mo_kw {M : MM} {q k l c t : Nat} (h : kd M (q + 1) = (k, l)) (hk : k = 64 ∨ k = 113 ∨ k = 81 ∨ k = 320) (h0 : kd M q = (c, t)) (h1 : c < 64) (h2 : ¬ (c = 3 ∧ t = 1)) : mo M (q + 1) = moC c t := by
  unfold mo
  rw [h]
  simp only
  rw [if_neg (by omega), if_pos hk, show q + 1 - 1 = q from rfl]
  unfold moO
  rw [h0]
  simp only
  rw [if_neg h2]
section FKS
variable {S S' : Nat → Bool} {M M1 M2 : MM} {A : Nat → Prop} {a k q c t l : Nat} {v : Int}
theorem FK.refl : FK S M M := ExA.refl
theorem exa_mo (h : ExA A M M1) (hq : q < nN M) : mo M1 q = mo M q := mo_same (fun b hb => h.2.2.1 b (by omega))
theorem FK.trans (h : FK S M M1) (h2 : FK S M1 M2) : FK S M M2 := ExA.trA h h2 (fun q hq hB => by rw [← exa_mo h hq]; exact hB)
theorem FK.mono (h : FK S M M1) (hs : ∀ m, S m = true → S' m = true) : FK S' M M1 := ExA.mono h (fun q hq => hs _ hq)
theorem FK_exa (h : ExA A M M1) (hs : ∀ q, q < nN M → A q → S (mo M q) = true) : FK S M M1 :=
  ⟨h.1, h.2.1, h.2.2.1, fun a ha hn => h.2.2.2 a ha (fun z => hn (hs a ha z))⟩
theorem FK_exc (h : ExC A M M1) (hs : ∀ q, q < nN M → A q → S (mo M q) = true) : FK S M M1 := FK_exa h.exa hs
theorem FK_ex (h : Ex A M M1) (hs : ∀ q, q < nN M → A q → S (mo M q) = true) : FK S M M1 := FK_exc (ExC_ex h) hs
theorem FK.un (h : FK S M M1) (hu : UN M) : UN M1 := h.2.1 hu
theorem FK.kd (h : FK S M M1) (hq : q < nN M) : kd M1 q = kd M q := h.2.2.1 q hq
theorem FK.cell (h : FK S M M1) (hq : q < nN M) (hs : S (mo M q) = false) : (∀ i, M1.1 q i = M.1 q i) ∧ ∀ i, M1.2.1 q i = M.2.1 q i := h.2.2.2 q hq (fun z => by have z : S (mo M q) = true := z; rw [hs] at z; exact absurd z (by decide))
theorem FK.rI (h : FK S M M1) (hq : q < nN M) (hs : S (mo M q) = false) (i : Nat) : rI M1 q i = rI M q i := by show w32 _ = w32 _; rw [(h.cell hq hs).1 i]
theorem FK.rR (h : FK S M M1) (hq : q < nN M) (hs : S (mo M q) = false) (i : Nat) : rR M1 q i = rR M q i := (h.cell hq hs).2 i
theorem FK.rU (h : FK S M M1) (hq : q < nN M) (hs : S (mo M q) = false) (i : Nat) : rU M1 q i = rU M q i := by show _ % 256 = _ % 256; rw [(h.cell hq hs).1 i]
/-- the same frame as a frame by cells -/
theorem FK.exa (h : FK S M M1) (hs : ∀ q, q < nN M → S (mo M q) = true → A q) : ExA A M M1 := ⟨h.1, h.2.1, h.2.2.1, fun a ha hn => h.2.2.2 a ha (fun z => hn (hs a ha z))⟩
end FKS
