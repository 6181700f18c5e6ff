/-! tables of the class: buckets by how many leading bits are alike; the last one has all from its number on -/
def isBk (M : MM) (b m : Nat) : Prop := kd M b = (21, 25) ∧ rR M b 0 = ((b + 1 : Nat) : Int) ∧ rR M b 1 = ((b + 3 : Nat) : Int) ∧ isRw M (b + 1) m ∧ isRw M (b + 3) m
def TabS (M : MM) (t ko m n : Nat) : Prop := (kd M t).1 = 20 ∧ rR M t 0 = (ko : Int) ∧ isK M ko ∧ rI M t 1 = (m : Int) ∧ rR M t 2 = ((28 : Nat) : Int) ∧ rR M t 3 = ((t + 1 : Nat) : Int) ∧ kd M (t + 1) = (588, 160) ∧ rI M t 4 = (n : Int) ∧ 1 ≤ m ∧ m ≤ 20
def BkS (M : MM) (ow : Nat → Nat × Nat) (t m bA : Nat) (B : Nat → Nat) : Prop := bA ≤ 160 ∧ (∀ i, i < bA → rR M (t + 1) i = ((B i : Nat) : Int) ∧ isBk M (B i) m ∧ ow (B i) = (t, 0)) ∧ (∀ i j, i < bA → j < bA → B i = B j → i = j) ∧ ∀ i, bA ≤ i → i < 160 → rR M (t + 1) i = -1
/-- rows (b false) and reserves (b true) as pointers -/
def rwA (B : Nat → Nat) (i : Nat) (b : Bool) : Nat := if b = true then B i + 3 else B i + 1
def PtS (M : MM) (ow : Nat → Nat × Nat) (t m bA : Nat) (B : Nat → Nat) (P : Nat → Bool → List Nat) : Prop := ∀ i b, i < bA → RowC M (rwA B i b) m (P i b) ∧ (P i b).Nodup ∧ ∀ c, c ∈ P i b → ow c = (t, rwA B i b)
def bkI (n : Nat) (own : Ky) (x : Row) : Nat := min (kc x.1 own).toNat (n - 1)
def inB (n : Nat) (own : Ky) (i : Nat) (b : Bool) (x : Row) : Bool := decide (bkI n own x = i) && (x.2.2 == b)
def kad (x : Row) : Ky × Int := (x.1, x.2.1)
def CoS (M : MM) (n bA : Nat) (own : Ky) (T : List Row) (B : Nat → Nat) (P : Nat → Bool → List Nat) (pf : Nat → Bool) : Prop := (1 ≤ n ∧ n ≤ bA) ∧ (∀ i b, i < n → (P i b).map (ctc M) = (T.filter (inB n own i b)).map kad) ∧ (∀ i b, n ≤ i → i < bA → P i b = []) ∧ (∀ i, i < n → rI M (B i) 2 = b2i (pf i)) ∧ okT own T ∧ (n < 160 → (∀ x, x ∈ T → x.2.2 = true → kc x.1 own < ((n - 1 : Nat) : Int)) ∧ ∀ c, n - 1 ≤ c → pf c = false)
def TabC (M : MM) (ow : Nat → Nat × Nat) (t ko m : Nat) (own : Ky) (T : List Row) (pf : Nat → Bool) (n bA : Nat) (B : Nat → Nat) (P : Nat → Bool → List Nat) : Prop := TabS M t ko m n ∧ ky (kC M ko) = own ∧ BkS M ow t m bA B ∧ PtS M ow t m bA B P ∧ CoS M n bA own T B P pf
section CTAB
variable {A : Nat → Prop} {M M1 : MM} {ow ow1 : Nat → Nat × Nat} {t ko m n bA i j c : Nat} {own : Ky} {T : List Row} {pf : Nat → Bool} {B : Nat → Nat} {P : Nat → Bool → List Nat} {b : Bool}
theorem isBk_row (h : isBk M (B i) m) : isRw M (rwA B i b) m := by
  cases b
  · exact h.2.2.2.1
  · exact h.2.2.2.2
/-- rows of a table are apart -/
theorem rw_apart (h : BkS M ow t m bA B) (hi : i < bA) (hj : j < bA) {b' : Bool} (he : rwA B i b = rwA B j b' ∨ rwA B i b = rwA B j b' + 1 ∨ rwA B i b + 1 = rwA B j b') : i = j ∧ b = b' := by
  have h1 := (h.2.1 i hi).2.1
  have h2 := (h.2.1 j hj).2.1
  have e1 := h1.2.2.2.1.2.2
  have e2 := h2.2.2.2.1.2.2
  have e3 := h1.2.2.2.2.2.2
  have e4 := h2.2.2.2.2.2.2
  have k1 := h1.2.2.2.1.1
  have k2 := h2.2.2.2.1.1
  have k3 := h1.2.2.2.2.1
  have k4 := h2.2.2.2.2.1
  have key : ∀ z, B i = z → B j = z → i = j := fun z q1 q2 => h.2.2.1 i j hi hj (q1.trans q2.symm)
  unfold rwA at he
  cases b <;> cases b' <;> simp only [Bool.false_eq_true, if_false, if_true] at he
  · rcases he with q | q | q
    · exact ⟨key (B i) rfl (by omega), rfl⟩
    · exfalso; rw [show B i + 1 = B j + 1 + 1 from q, e2] at k1; cases k1
    · exfalso; rw [← show B i + 1 + 1 = B j + 1 from q, e1] at k2; cases k2
  · exfalso
    rcases he with q | q | q
    · have : B i = B j + 2 := by omega
      have z := h1.1; rw [this, show B j + 2 = B j + 1 + 1 from rfl, e2] at z; cases z
    · rw [q, e4] at k1; cases k1
    · rw [← q, e1] at k4; cases k4
  · exfalso
    rcases he with q | q | q
    · have : B j = B i + 2 := by omega
      have z := h2.1; rw [this, show B i + 2 = B i + 1 + 1 from rfl, e1] at z; cases z
    · rw [q, e2] at k3; cases k3
    · rw [← q, e3] at k2; cases k2
  · rcases he with q | q | q
    · exact ⟨key (B i) rfl (by omega), rfl⟩
    · exfalso; rw [q, e4] at k3; cases k3
    · exfalso; rw [← q, e3] at k4; cases k4
/-- kinds of a table's cells -/
theorem TabS.exk (h : ExC A M M1) (hA : ∀ q, A q → (kd M q).1 = 22 ∨ (kd M q).1 = 486 ∨ (kd M q).1 = 23) (hs : TabS M t ko m n) : TabS M1 t ko m n ∧ kC M1 ko = kC M ko := by
  obtain ⟨h1, h2, h3, h4, h5, h6, h7, h8, h9⟩ := hs
  have a1 : ¬ A t := fun q => by have := hA t q; omega
  have a2 : ¬ A ko := fun q => by have := hA ko q; have := h3.1; omega
  have a3 : ¬ A (ko + 1) := fun q => by have := hA _ q; rw [h3.2.2] at this; simp at this
  exact ⟨⟨by rw [h.kd]; exact h1, by rw [h.rR a1]; exact h2, h.isK a2 h3, by rw [h.rI a1]; exact h4, by rw [h.rR a1]; exact h5, by rw [h.rR a1]; exact h6, by rw [h.kd]; exact h7, by rw [h.rI a1]; exact h8, h9⟩, h.kC a3⟩
theorem isRw.ofkd (h : ExC A M M1) {r : Nat} (hr : rR M1 r 0 = rR M r 0) (hs : isRw M r m) : isRw M1 r m := ⟨by rw [h.kd]; exact hs.1, by rw [hr]; exact hs.2.1, by rw [h.kd]; exact hs.2.2⟩
/-- a row of a table changes, and contacts in it; the others stay -/
theorem tab_row1 (hT : TabC M ow t ko m own T pf n bA B P) (hi : i < bA) {ps : List Nat} (h : ExC (fun q => q = rwA B i b ∨ q = rwA B i b + 1) M M1) (hr : RowC M1 (rwA B i b) m ps) : TabS M1 t ko m n ∧ ky (kC M1 ko) = own ∧ BkS M1 ow t m bA B ∧ (∀ j b', j < bA → ¬ (j = i ∧ b' = b) → RowC M1 (rwA B j b') m (P j b')) ∧ (∀ c, isCt M c → isCt M1 c ∧ ctc M1 c = ctc M c) ∧ ∀ j, j < bA → rI M1 (B j) 2 = rI M (B j) 2 := by
  obtain ⟨hS, hO, hB, hP, hC⟩ := hT
  have rw1 := isBk_row (b := b) (hB.2.1 i hi).2.1
  obtain ⟨s1, s2⟩ := TabS.exk h (fun q hq => by
    rcases hq with e | e
    · rw [e, rw1.1]; exact Or.inl rfl
    · rw [e, rw1.2.2]; exact Or.inr (Or.inl rfl)) hS
  have nt : ¬ (t + 1 = rwA B i b ∨ t + 1 = rwA B i b + 1) := by
    rintro (q | q)
    · have := rw1.1; rw [← q, hS.2.2.2.2.2.2.1] at this; cases this
    · have := rw1.2.2; rw [← q, hS.2.2.2.2.2.2.1] at this; cases this
  have nb : ∀ j, j < bA → ¬ (B j = rwA B i b ∨ B j = rwA B i b + 1) := by
    intro j hj
    have z := (hB.2.1 j hj).2.1.1
    rintro (q | q)
    · have := rw1.1; rw [← q, z] at this; cases this
    · have := rw1.2.2; rw [← q, z] at this; cases this
  have rws' : ∀ j b', j < bA → ¬ (j = i ∧ b' = b) → ¬ (rwA B j b' = rwA B i b ∨ rwA B j b' = rwA B i b + 1) ∧ ¬ (rwA B j b' + 1 = rwA B i b ∨ rwA B j b' + 1 = rwA B i b + 1) := by
    intro j b' hj hne
    refine ⟨fun q => hne ?_, fun q => hne ?_⟩
    · exact rw_apart hB hj hi (by omega)
    · exact rw_apart hB hj hi (by omega)
  have cts : ∀ c, isCt M c → isCt M1 c ∧ ctc M1 c = ctc M c := by
    intro c hc
    have z := ct_ne hc rw1
    exact ⟨hc.exc h (by omega) (by omega), ctc.exc h (by omega) (by omega)⟩
  have bks : ∀ j, j < bA → isBk M1 (B j) m := by
    intro j hj
    have z := (hB.2.1 j hj).2.1
    have z1 := nb j hj
    have rr : ∀ b', isRw M1 (rwA B j b') m := by
      intro b'
      by_cases q : j = i ∧ b' = b
      · rw [q.1, q.2]; exact hr.1
      · have w := rws' j b' hj q
        exact isRw.ofkd h (h.rR w.1 0) (isBk_row z)
    exact ⟨by rw [h.kd]; exact z.1, by rw [h.rR z1]; exact z.2.1, by rw [h.rR z1]; exact z.2.2.1, rr false, rr true⟩
  refine ⟨s1, by rw [s2]; exact hO, ⟨hB.1, fun j hj => ⟨by rw [h.rR nt]; exact (hB.2.1 j hj).1, bks j hj, (hB.2.1 j hj).2.2⟩, hB.2.2.1, fun j h1 h2 => by rw [h.rR nt]; exact hB.2.2.2 j h1 h2⟩, fun j b' hj hne => ?_, cts, fun j hj => h.rI (nb j hj) 2⟩
  have w := rws' j b' hj hne
  have hp := (hP j b' hj).1
  refine hp.exc h w.1 w.2 (fun c hc => ?_)
  have z := ct_ne (hp.2.2.2.2.2 c hc) rw1
  omega
theorem c_bucketFor {cc : Int} (hS : TabS M t ko m n) (hB : BkS M ow t m bA B) (hn : 1 ≤ n ∧ n ≤ bA) (hc : 0 ≤ cc ∧ cc ≤ 160) : f_X20_bucketFor (t : Int) cc M = some ((B (min cc.toNat (n - 1)) : Nat) : Int) := by
  obtain ⟨h1, h2, h3, h4, h5, h6, h7, h8, h9⟩ := hS
  have hb := hB.1
  have e : cc = ((cc.toNat : Nat) : Int) := by omega
  generalize cc.toNat = z at e
  subst e
  unfold f_X20_bucketFor j_X20_bucketFor_22
  rw [gfr_e h1, h6, Option.bind_some, gfi_e h1, Option.bind_some, Option.bind_some, h8, w32_nn (by omega), w32_nn (by omega), csub1 (by omega)]
  by_cases c1 : z < n
  · rw [if_pos (by omega), lar_n h7 (by decide) (by omega) (by decide), Option.bind_some, (hB.2.1 z (by omega)).1, show min z (n - 1) = z by omega]
  · rw [if_neg (by omega), lar_n h7 (by decide) (by omega) (by decide), Option.bind_some, (hB.2.1 (n - 1) (by omega)).1, show min z (n - 1) = n - 1 by omega]
end CTAB
