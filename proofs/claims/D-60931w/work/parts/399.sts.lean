/-! the stores of all peers -/
def StsC (M : MM) (N : Nat) (pa : Nat → Nat) (A : Nat → Nat) (D : Nat → Nat → Nat) (S : Nat → List Post) : Prop :=
  UN M ∧ 276 ≤ nN M ∧ (∀ p q, p < N → q < N → pa p = pa q → p = q) ∧ (∀ p, p < N → StC M (pa p + 3) (A p) (D p) (S p)) ∧ (∀ p q i j, p < N → q < N → i < A p → j < A q → D p i = D q j → p = q) ∧ ∀ p i, p < N → i < A p → 276 ≤ D p i
section STS
variable {M M1 M2 : MM} {S : Nat → Bool} {m N p kx s s' A0 A1 x n : Nat} {pa A : Nat → Nat} {D : Nat → Nat → Nat} {D0 D1 : Nat → Nat} {Ss : Nat → List Post} {S0 S1 : List Post} {l : List Int} {en tm : Int}
theorem st_mo (h : StC M s A0 D0 S0) : mo M s = 3 ∧ mo M (s + 1) = 3 ∧ mo M (s + 2) = 3 ∧ mo M (s + 3) = 3 ∧ ∀ i, i < A0 → mo M (D0 i) = 3 ∧ mo M (D0 i + 1) = 3 ∧ mo M (D0 i + 2) = 3 := by
  obtain ⟨⟨s1, s2, s3, s4, s5, s6⟩, h1, h2, h3, h4, h5⟩ := h
  refine ⟨mo_cl1 s1 (by decide) (by decide), mo_ar s3 (by decide) (by decide), mo_cl s5 (by decide) (by decide), mo_kw s6.2.2 (Or.inl rfl) s5 (by decide) (by decide), fun i hi => ?_⟩
  obtain ⟨_, p1, p2, p3, p4⟩ := h4 i hi
  exact ⟨mo_cl1 (c := 28) (by rw [p1]) (by decide) (by decide), mo_cl p3 (by decide) (by decide), mo_kw (q := D0 i + 1) p4.2.2 (Or.inl rfl) p3 (by decide) (by decide)⟩
theorem a7_mo (h : StC M s A0 D0 S0) {q : Nat} (hq : A7 s A0 D0 q ∨ q = s + 3) : mo M q = 3 := by
  obtain ⟨m1, m2, m3, m4, m5⟩ := st_mo h
  rcases hq with (e | e | ⟨i, hi, e | e⟩) | e <;> subst e
  · exact m1
  · exact m2
  · exact (m5 i hi).1
  · exact (m5 i hi).2.2
  · exact m4
theorem st_fk (h : FK S M M1) (hs : S 3 = false) (hu : UN M) (hT : StC M s A0 D0 S0) : StC M1 s A0 D0 S0 := by
  obtain ⟨m1, m2, m3, m4, m5⟩ := st_mo hT
  have no : ∀ {q}, mo M q = 3 → ¬ (fun q => S (mo M q) = true) q := fun e z => by
    have z : S (mo M _) = true := z
    rw [e, hs] at z
    exact absurd z (by decide)
  exact hT.exa h hu ⟨no m1, no m2, no m3⟩ (fun i hi => ⟨no (m5 i hi).1, no (m5 i hi).2.1, no (m5 i hi).2.2⟩)
theorem sts_fk (h : FK S M M1) (hs : S 3 = false) (hT : StsC M N pa A D Ss) : StsC M1 N pa A D Ss :=
  ⟨h.un hT.1, Nat.le_trans hT.2.1 h.1, hT.2.2.1, fun p hp => st_fk h hs hT.1 (hT.2.2.2.1 p hp), hT.2.2.2.2.1, hT.2.2.2.2.2⟩
/-- a step of one store is nothing to another -/
theorem st_other (h : StC M s A0 D0 S0) (h' : StC M s' A1 D1 S1) (hne : s' ≠ s) (hap : ∀ i j, i < A1 → j < A0 → D1 i ≠ D0 j) (hu : UN M) (hx : ExA (fun q => A7 s A0 D0 q ∨ q = s + 3) M M1) : StC M1 s' A1 D1 S1 := by
  obtain ⟨⟨s1, s2, s3, s4, s5, s6⟩, _, _, _, h4, _⟩ := h
  obtain ⟨⟨t1, t2, t3, t4, t5, t6⟩, _, _, _, g4, _⟩ := id h'
  have k1 : (kd M (s + 1)).1 = 569 := by rw [s3]
  have k2 : (kd M (s' + 1)).1 = 569 := by rw [t3]
  have k3 : (kd M (s + 3)).1 = 64 := by rw [show s + 3 = s + 2 + 1 from rfl, s6.2.2]
  have k4 : (kd M (s' + 2)).1 = 3 := by rw [t5]
  have po : ∀ i, i < A0 → (kd M (D0 i)).1 = 28 ∧ kd M (D0 i + 1) = (3, 32) ∧ (kd M (D0 i + 2)).1 = 64 := fun i hi => by
    obtain ⟨_, p1, p2, p3, p4⟩ := h4 i hi
    exact ⟨by rw [p1], p3, by rw [show D0 i + 2 = D0 i + 1 + 1 from rfl, p4.2.2]⟩
  have po' : ∀ i, i < A1 → (kd M (D1 i)).1 = 28 ∧ kd M (D1 i + 1) = (3, 32) ∧ (kd M (D1 i + 2)).1 = 64 := fun i hi => by
    obtain ⟨_, p1, p2, p3, p4⟩ := g4 i hi
    exact ⟨by rw [p1], p3, by rw [show D1 i + 2 = D1 i + 1 + 1 from rfl, p4.2.2]⟩
  refine h'.exa hx hu ⟨?_, ?_, ?_⟩ (fun i hi => ⟨?_, ?_, ?_⟩)
  · rintro ((e | e | ⟨j, hj, e | e⟩) | e)
    · exact hne e
    · rw [e] at t1; omega
    · have := po j hj; rw [e] at t1; omega
    · have := po j hj; rw [e] at t1; omega
    · rw [e] at t1; omega
  · rintro ((e | e | ⟨j, hj, e | e⟩) | e)
    · rw [e] at k2; omega
    · omega
    · have := po j hj; rw [e] at k2; omega
    · have := po j hj; rw [e] at k2; omega
    · rw [e] at k2; omega
  · rintro ((e | e | ⟨j, hj, e | e⟩) | e)
    · rw [e] at k4; omega
    · rw [e] at k4; omega
    · have := po j hj; rw [e] at k4; omega
    · have := po j hj; rw [e] at k4; omega
    · rw [e] at k4; omega
  · have w := po' i hi
    rintro ((e | e | ⟨j, hj, e | e⟩) | e)
    · rw [e] at w; omega
    · rw [e] at w; omega
    · exact hap i j hi hj e
    · have := po j hj; rw [e] at w; omega
    · rw [e] at w; omega
  · have w := po' i hi
    have w3 : (kd M (D1 i + 1)).1 = 3 := by rw [w.2.1]
    rintro ((e | e | ⟨j, hj, e | e⟩) | e)
    · rw [e] at w3; omega
    · rw [e] at w3; omega
    · have := po j hj; rw [e] at w3; omega
    · have := po j hj; rw [e] at w3; omega
    · rw [e] at w3; omega
  · have w := po' i hi
    rintro ((e | e | ⟨j, hj, e | e⟩) | e)
    · rw [e] at w; omega
    · rw [e] at w; omega
    · have := po j hj; rw [e] at w; omega
    · exact hap i j hi hj (by omega)
    · have : D1 i + 1 = s + 2 := by omega
      rw [this, s5] at w
      exact absurd w.2.1 (by decide)
theorem sts_step (hT : StsC M N pa A D Ss) (hp : p < N) (h : StC M1 (pa p + 3) A1 D1 S1) (hd : DW M (A p) (D p) A1 D1) (hx : ExA (fun q => A7 (pa p + 3) (A p) (D p) q ∨ q = pa p + 3 + 3) M M1) : StsC M1 N pa (fup A p A1) (fup D p D1) (fup Ss p S1) := by
  obtain ⟨h1, h2, h3, h4, h5, h6⟩ := hT
  have lt : ∀ q i, q < N → i < A q → D q i < nN M := fun q i hq hi => by have := (h4 q hq).D_lt h1 hi; omega
  have new : ∀ i, i < A1 → (∃ j, j < A p ∧ D1 i = D p j) ∨ nN M ≤ D1 i := hd.2
  refine ⟨hx.un h1, Nat.le_trans h2 hx.1, h3, fun q hq => ?_, fun q r i j hq hr hi hj he => ?_, fun q i hq hi => ?_⟩
  · by_cases e : q = p
    · subst e; rw [fup_eq, fup_eq, fup_eq]; exact h
    · rw [fup_ne e, fup_ne e, fup_ne e]
      exact st_other (h4 p hp) (h4 q hq) (fun z => e (h3 q p hq hp (by omega))) (fun i j hi hj z => e (h5 q p i j hq hp hi hj z)) h1 hx
  · by_cases e : q = p
    · by_cases e' : r = p
      · omega
      · subst e
        rw [fup_eq] at hi
        rw [fup_ne e'] at hj
        rw [fup_eq, fup_ne e'] at he
        rcases new i hi with ⟨k, hk, ek⟩ | hk
        · exact h5 q r k j hq hr hk hj (by rw [← ek]; exact he)
        · have := lt r j hr hj; omega
    · by_cases e' : r = p
      · subst e'
        rw [fup_eq] at hj
        rw [fup_ne e] at hi
        rw [fup_eq, fup_ne e] at he
        rcases new j hj with ⟨k, hk, ek⟩ | hk
        · exact h5 q r i k hq hr hi hk (by rw [← ek]; exact he)
        · have := lt q i hq hi; omega
      · rw [fup_ne e] at hi
        rw [fup_ne e'] at hj
        rw [fup_ne e, fup_ne e'] at he
        exact h5 q r i j hq hr hi hj he
  · by_cases e : q = p
    · subst e
      rw [fup_eq] at hi ⊢
      rcases new i hi with ⟨k, hk, ek⟩ | hk
      · rw [ek]; exact h6 q k hq hk
      · omega
    · rw [fup_ne e] at hi ⊢
      exact h6 q i hq hi
theorem c_keepT (hT : StsC M N pa A D Ss) (hp : p < N) (hq : PkC M x l) (hn : l.getD 45 0 = (n : Int)) (hn2 : n ≤ 16) (hl : 46 + 3 * n ≤ l.length) (hI : okI (rdI l 46 n)) (he : w32 en = en) :
    ∃ M' A' D', f_X18_keep ((pa p + 3 : Nat) : Int) (x : Int) en M = some (b2i (keepS (kyP l 25) (rdI l 46 n) en (Ss p)).isSome, M') ∧ StsC M' N pa A' D' (fup Ss p ((keepS (kyP l 25) (rdI l 46 n) en (Ss p)).getD (Ss p))) ∧ (nN M' + 3 * sumN A N = nN M + 3 * sumN A' N ∧ nU M' + 11 * sumN A N = nU M + 11 * sumN A' N) ∧ ∀ S : Nat → Bool, S 3 = true → FK S M M' := by
  obtain ⟨M', A', D', e1, e2, e3, e4, e5, e6⟩ := c_keep (hT.2.2.2.1 p hp) hT.1 hq hn hn2 hl hI he
  have es := sumN_fup (f := A) (p := p) (v := A') N hp
  refine ⟨M', fup A p A', fup D p D', e1, sts_step hT hp e2 e3 e6, ⟨by omega, by omega⟩, fun S hS => FK_exa e6 (fun q _ hq => by rw [a7_mo (hT.2.2.2.1 p hp) hq]; exact hS)⟩
theorem c_expireT (hT : StsC M N pa A D Ss) (hp : p < N) (ht : w32 tm = tm) :
    ∃ M' D', f_X18_expire ((pa p + 3 : Nat) : Int) tm M = some M' ∧ StsC M' N pa A D' (fup Ss p (expS tm (Ss p))) ∧ (nN M' = nN M ∧ nU M' = nU M) ∧ ∀ S : Nat → Bool, S 3 = true → FK S M M' := by
  obtain ⟨M', D', e1, e2, e3, e4⟩ := c_expire (hT.2.2.2.1 p hp) ht
  have hx : ExA (fun q => A7 (pa p + 3) (A p) (D p) q ∨ q = pa p + 3 + 3) M M' := e4.exa.mono (fun q hq => by
    rcases hq with e | e
    · exact Or.inl (Or.inl e)
    · exact Or.inl (Or.inr (Or.inl e)))
  have := sts_step hT hp e2 ⟨Nat.le_refl _, fun i hi => Or.inl (e3 i hi)⟩ hx
  rw [fup_self] at this
  exact ⟨M', fup D p D', e1, this, ⟨e4.nN, e4.nU⟩, fun S hS => FK_exa hx (fun q _ hq => by rw [a7_mo (hT.2.2.2.1 p hp) hq]; exact hS)⟩
theorem c_sclearT (hT : StsC M N pa A D Ss) (hp : p < N) :
    ∃ M', f_X18_clear ((pa p + 3 : Nat) : Int) M = some M' ∧ StsC M' N pa A D (fup Ss p []) ∧ (nN M' = nN M ∧ nU M' = nU M) ∧ ∀ S : Nat → Bool, S 3 = true → FK S M M' := by
  obtain ⟨M', e1, e2, e4⟩ := c_sclear (hT.2.2.2.1 p hp)
  have hx : ExA (fun q => A7 (pa p + 3) (A p) (D p) q ∨ q = pa p + 3 + 3) M M' := e4.exa.mono (fun q hq => Or.inl (Or.inl hq))
  have := sts_step hT hp e2 ⟨Nat.le_refl _, fun i hi => Or.inl ⟨i, hi, rfl⟩⟩ hx
  rw [fup_self, fup_self] at this
  exact ⟨M', e1, this, ⟨e4.nN, e4.nU⟩, fun S hS => FK_exa hx (fun q _ hq => by rw [a7_mo (hT.2.2.2.1 p hp) hq]; exact hS)⟩
end STS
