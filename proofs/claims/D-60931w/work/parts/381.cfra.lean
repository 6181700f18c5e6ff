/-! frames of a table's steps -/
section CFRA
variable {M M1 M2 : MM} {ow ow1 ow2 : Nat → Nat × Nat} {t ko m n bA i j c k kx a a1 len : Nat} {own : Ky} {T T' : List Row} {pf : Nat → Bool} {B : Nat → Nat} {P P' : Nat → Bool → List Nat} {Cn Cn' : Nat → Bool → List (Ky × Int)} {fl : Nat → Int} {sp : List Nat} {b : Bool} {ad : Int} {x : Row}
/-- a step: what it wrote, whose cells are whose -/
def StF (M : MM) (ow : Nat → Nat × Nat) (B : Nat → Nat) (bA t a : Nat) (M' : MM) (ow' : Nat → Nat × Nat) (a' : Nat) : Prop := ExA (A5 M ow B bA t a) M M' ∧ OwG M t ow ow' ∧ (a' = a ∨ nN M ≤ a')
theorem StF.refl : StF M ow B bA t a M ow a := ⟨ExA.refl, OwG.refl, Or.inl rfl⟩
theorem StF.trans {B1 : Nat → Nat} {bA1 a2 : Nat} (h1 : StF M ow B bA t a M1 ow1 a1) (h2 : StF M1 ow1 B1 bA1 t a1 M2 ow2 a2) (hB : ∀ i, i < bA → B1 i = B i) (hB2 : ∀ i, bA ≤ i → i < bA1 → nN M ≤ B1 i) : StF M ow B bA t a M2 ow2 a2 := by
  obtain ⟨e1, o1, p1⟩ := h1
  obtain ⟨e2, o2, p2⟩ := h2
  refine ⟨⟨Nat.le_trans e1.1 e2.1, fun q => e2.2.1 (e1.2.1 q), fun z hz => by rw [e2.kd (Nat.lt_of_lt_of_le hz e1.1), e1.kd hz], fun z hz hA => ?_⟩, fun z hz => ?_, ?_⟩
  · have t1 := e1.2.2.2 z hz hA
    have t2 := e2.2.2.2 z (Nat.lt_of_lt_of_le hz e1.1) (fun q => hA (by
      rcases q with q | q | q | q | ⟨c, q1, q2, q3, q4, q5⟩
      · rcases q with e | e | ⟨i, hi, w1, w2⟩
        · exact Or.inl (Or.inl e)
        · exact Or.inl (Or.inr (Or.inl e))
        · by_cases q3 : i < bA
          · rw [hB i q3] at w1 w2
            exact Or.inl (Or.inr (Or.inr ⟨i, q3, w1, w2⟩))
          · have := hB2 i (by omega) hi
            omega
      · exact Or.inr (Or.inl q)
      · rcases p1 with w | w
        · exact Or.inr (Or.inr (Or.inl (q.trans w)))
        · omega
      · rw [e1.kd hz] at q
        exact Or.inr (Or.inr (Or.inr (Or.inl ⟨q.1, (o1 z hz).2.mpr q.2⟩)))
      · rw [e1.kd (by omega)] at q2 q3 q4
        exact Or.inr (Or.inr (Or.inr (Or.inr ⟨c, q1, q2, q3, q4, (o1 c (by omega)).2.mpr q5⟩)))))
    exact ⟨fun i => (t2.1 i).trans (t1.1 i), fun i => (t2.2 i).trans (t1.2 i)⟩
  · have hz1 := Nat.lt_of_lt_of_le hz e1.1
    have a := o1 z hz
    have b := o2 z hz1
    refine ⟨fun q1 q2 => ?_, a.2.trans b.2⟩
    have e := a.1 q1 q2
    rw [b.1 (by rw [e]; exact q1) (by rw [e]; exact q2), e]
  · rcases p2 with w | w
    · rw [w]; exact p1
    · exact Or.inr (Nat.le_trans e1.1 w)
theorem rw_A3 (hi : i < bA) : A3 B bA t (rwA B i b) ∧ A3 B bA t (rwA B i b + 1) := by
  constructor
  · refine Or.inr (Or.inr ⟨i, hi, ?_, ?_⟩) <;> (unfold rwA; split <;> omega)
  · refine Or.inr (Or.inr ⟨i, hi, ?_, ?_⟩) <;> (unfold rwA; split <;> omega)
theorem stf_row (hi : i < bA) (h : ExC (fun q => q = rwA B i b ∨ q = rwA B i b + 1) M M1) : StF M ow B bA t a M1 ow a := by
  refine ⟨(ExC.exa h).mono (fun q hq => ?_), OwG.refl, Or.inl rfl⟩
  rcases hq with e | e
  · rw [e]; exact Or.inl (rw_A3 hi).1
  · rw [e]; exact Or.inl (rw_A3 hi).2
theorem stf_add (hi : i < bA) (ht : t ≠ 28) (hc : (ow c = (28, 28) ∧ isCt M c) ∨ c = nN M) (h : ExA (fun q => q = 28 ∨ (q = c ∨ q = c + 2) ∨ (q = rwA B i b ∨ q = rwA B i b + 1)) M M1) : StF M ow B bA t a M1 (fup ow c (t, rwA B i b)) a := by
  refine ⟨⟨h.1, h.2.1, h.2.2.1, fun z hz hA => h.2.2.2 z hz (fun q => hA ?_)⟩, fun z hz => ?_, Or.inl rfl⟩
  · rcases q with e | e | e
    · exact Or.inr (Or.inl e)
    · rcases hc with w | w
      · have k2 : kd M (c + 2) = (64, 5) := w.2.2.2.2.2.2
        rcases e with e | e
        · rw [e]; exact Or.inr (Or.inr (Or.inr (Or.inl ⟨w.2.1, Or.inr (by rw [w.1])⟩)))
        · exact Or.inr (Or.inr (Or.inr (Or.inr ⟨c, e, w.2.1, w.2.2.2.1, k2, Or.inr (by rw [w.1])⟩)))
      · omega
    · rcases e with e | e
      · rw [e]; exact Or.inl (rw_A3 hi).1
      · rw [e]; exact Or.inl (rw_A3 hi).2
  · by_cases q : z = c
    · rcases hc with w | w
      · rw [q, fup_eq, w.1]
        exact ⟨fun _ q2 => absurd rfl q2, ⟨fun _ => Or.inl rfl, fun _ => Or.inr rfl⟩⟩
      · omega
    · rw [fup_ne q]; exact ⟨fun _ _ => rfl, Iff.rfl⟩
theorem stf_del {a' : Nat} (hi : i < bA) (hc : (ow c).1 = t) (ha : a' = a ∨ a' = nN M) (h : ExA (fun q => q = 28 ∨ q = a ∨ (q = rwA B i b ∨ q = rwA B i b + 1)) M M1) : StF M ow B bA t a M1 (fup ow c (28, 28)) a' := by
  refine ⟨h.mono (fun q hq => ?_), fun z hz => ?_, by omega⟩
  · rcases hq with e | e | e
    · exact Or.inr (Or.inl e)
    · exact Or.inr (Or.inr (Or.inl e))
    · rcases e with e | e
      · rw [e]; exact Or.inl (rw_A3 hi).1
      · rw [e]; exact Or.inl (rw_A3 hi).2
  · by_cases q : z = c
    · rw [q, fup_eq]
      exact ⟨fun q1 _ => absurd hc q1, ⟨fun _ => Or.inr rfl, fun _ => Or.inl hc⟩⟩
    · rw [fup_ne q]; exact ⟨fun _ _ => rfl, Iff.rfl⟩
theorem stf_split {bA' : Nat} {B' : Nat → Nat} (h : ExA (A3 B bA t) M M1) (ho : OwF M t ow ow1) : StF M ow B bA t a M1 ow1 a := by
  refine ⟨h.mono (fun q hq => Or.inl hq), fun z hz => ?_, Or.inl rfl⟩
  have w := ho z hz
  refine ⟨fun q _ => w.2.1 q, by rw [w.1]⟩
/-- back to the table -/
theorem tt_of {ow' : Nat → Nat × Nat} {M' : MM} {a' len' : Nat} {sp' : List Nat} (h : TT M ow t ko m own T pf n bA B P Cn fl a len sp) (tp : TPool M' ow' t ko m own n bA B P' Cn' fl a' len' sp') (hc : ∀ i b, i < n → Cn' i b = (T'.filter (inB n own i b)).map kad) (he : ∀ i b, n ≤ i → i < bA → Cn' i b = Cn i b) (hT : okT own T') (hF : okF n own T' pf) : TT M' ow' t ko m own T' pf n bA B P' Cn' fl a' len' sp' := ⟨tp, h.2.1, hc, fun i b q1 q2 => by rw [he i b q1 q2]; exact h.2.2.2.1 i b q1 q2, h.2.2.2.2.1, hT, hF⟩
/-- a bucket of one number -/
theorem inB_pr {C : Nat} (hT : okT own T) (hown : kyo own) (hC : C < 160) (hn : 1 ≤ n) (hex : C < n - 1 ∨ n = 160) : T.filter (inB n own C b) = T.filter (pr own ((C : Nat) : Int) b) := by
  apply List.filter_congr
  intro x hx
  unfold inB pr bkI
  congr 1
  rw [decide_eq_decide]
  have h1 := kc_lo x.1 own
  have h2 := kc_hi x.1 own
  have h3 : kc x.1 own ≠ 160 := fun q => (hT.2.2 x hx).2.2 ((kc_160 (hT.2.2 x hx).1 hown).mp q)
  omega
end CFRA
