/-! modules of the cells, by their kinds; what a method leaves as it was -/
def moT (t : Nat) : Nat := [99, 99, 9, 1, 7, 2, 7, 7, 7, 7, 7, 7, 6, 12, 6, 6, 6, 6, 8, 8, 8, 8, 7, 2, 2, 2, 4, 4, 1, 1, 6, 6, 3, 3, 5, 5, 5, 8, 2, 2, 3, 10, 3, 4, 2, 6, 5, 6, 14, 14, 14, 14, 6, 8, 0].getD t 99
def moA (k : Nat) : Nat := if k = 128 then 1 else if k = 149 then 1 else if k = 166 then 2 else if k = 176 then 7 else if k = 192 then 7 else if k = 209 then 7 else if k = 230 then 7 else if k = 247 then 7 else if k = 256 then 15 else if k = 273 then 8 else if k = 288 then 8 else if k = 304 then 8 else if k = 376 then 6 else if k = 385 then 8 else if k = 401 then 8 else if k = 417 then 8 else if k = 435 then 8 else if k = 452 then 8 else if k = 470 then 2 else if k = 486 then 2 else if k = 497 then 4 else if k = 512 then 4 else if k = 528 then 11 else if k = 554 then 4 else if k = 569 then 3 else if k = 588 then 2 else if k = 603 then 5 else if k = 618 then 13 else if k = 637 then 14 else if k = 653 then 14 else if k = 656 then 14 else if k = 672 then 14 else if k = 688 then 14 else if k = 704 then 14 else if k = 720 then 14 else if k = 736 then 14 else if k = 754 then 14 else if 768 ≤ k then 0 else 99
def finT : List (List Bool) := [[], [true, true, true, true, true, false, true, true, false, true, true, true, true], [true, true, true, false], [true], [true, false], [true, true, true, false], [false, false, true, true, true, true, false, true, true, true, true, true, true, true, true], [true, true, false, false, false, true], [true, true, true], [false, false], [true, false, false, true, true, true], [true, true, false, false, false, false, false, true, true, true, false, false], [], [false, false, false], [], [true, true, false, false, false, false], [false, false, true, true, false, true, true, true, true, true, true, false, false, false, true, true, true, true, true, true, true, true, true, true, true, true, true, true, false, true, true, true, false, false, true, true, true, true, true, true, true, false, false, true, true, true, true, true, true, true, false, true, true, true, true, true, true, true, true, true, true, true, true, true, false, true, true, true, true, true, true, true, false, true, false, true, true, true, false, false, true, false, false, false, false, true, true, true, false, true, true, false, true, true, true, true, true, true, true, true, true, true, true, true, true, true, false, true, true, true, true, true, true, true, true, true, true, true, true, true, true, true, true, true, true, true, true, true, true, true, true, true, true, true, true, true, true, true, false, true, true, true, false, true, true], [true, false, true, false, false, true, true, true, true, false, false, false, false, false, false, false, false, false, false, true], [true, false, true], [true, false, false], [true, false, true, true, false], [true, true, false], [true, false], [true, false], [false, false, false, false, false, false, false, true, true, false, false], [false, false, false, true], [false, false, false, false, false, false, false], [true, false, false, false], [true, false, false, false, false], [true, false, true, true], [true, false, false, false, false, false, false], [true, true, true, true, true, false, false, false, true, true, true, true, true, false, false, false, false, true]]
def finR (c k : Nat) : Bool := (finT.getD c []).getD k false
def mC (c : Nat) : Nat := [99, 8, 8, 99, 99, 99, 7, 1, 7, 2, 99, 12, 12, 12, 12, 6, 0, 5, 3, 4, 2, 2, 2, 2, 5, 1, 11, 6, 3, 4, 13, 14].getD c 99
def moC (c t : Nat) : Nat := if c = 3 ∨ c = 4 ∨ c = 5 ∨ c = 10 then moT t else mC c
def moO (M : MM) (a : Nat) : Nat := if (kd M a).1 = 3 ∧ (kd M a).2 = 1 then moT (kd M (a - 3)).2 else moC (kd M a).1 (kd M a).2
/-- the module of a cell: 0 the reference, 1 net, 2 tables, 3 stores, 4 libraries, 5 peers and requests, 6 lookups, 7 board, 8 the class itself, 11 tasks, 12 works, 13 publishing, 14 asking, 15 numbers -/
def mo (M : MM) (a : Nat) : Nat :=
  if (kd M a).1 < 64 then moO M a else if (kd M a).1 = 64 ∨ (kd M a).1 = 113 ∨ (kd M a).1 = 81 ∨ (kd M a).1 = 320 then moO M (a - 1) else if (kd M a).1 = 97 ∨ (kd M a).1 = 336 then moO M (a - 2) else if (kd M a).1 = 352 then moO M (a - 3) else moA (kd M a).1
/-- cells that aren't yet -/
def UN (M : MM) : Prop := ∀ a, nN M ≤ a → (kd M a).1 = 63
/-- M' comes out of M: kinds and final references stay, cells of other modules than S are as they were -/
def FrM (S : Nat → Bool) (M M' : MM) : Prop := nN M ≤ nN M' ∧ (UN M → UN M') ∧ (∀ a, a < nN M → kd M' a = kd M a) ∧ (∀ a k, a < nN M → finR (kd M a).1 k = true → rR M' a k = rR M a k) ∧ ∀ a, a < nN M → S (mo M a) = false → (∀ i, M'.1 a i = M.1 a i) ∧ ∀ i, M'.2.1 a i = M.2.1 a i
theorem mo_same {M M' : MM} {a : Nat} (h : ∀ b, b ≤ a → kd M' b = kd M b) : mo M' a = mo M a := by
  unfold mo moO
  rw [h a (Nat.le_refl a), h (a - 1) (by omega), h (a - 2) (by omega), h (a - 3) (by omega), h (a - 1 - 3) (by omega), h (a - 2 - 3) (by omega), h (a - 3 - 3) (by omega)]
section FRM
variable {S : Nat → Bool} {M M1 M2 : MM} {a k : Nat} {v : Int}
theorem FrM.refl : FrM S M M := ⟨Nat.le_refl _, id, fun _ _ => rfl, fun _ _ _ _ => rfl, fun _ _ _ => ⟨fun _ => rfl, fun _ => rfl⟩⟩
theorem FrM_mo (h : FrM S M M1) (ha : a < nN M) : mo M1 a = mo M a := mo_same (fun b hb => h.2.2.1 b (by omega))
theorem FrM.trans (h1 : FrM S M M1) (h2 : FrM S M1 M2) : FrM S M M2 := by
  obtain ⟨a1, a2, a3, a4, a5⟩ := id h1
  obtain ⟨b1, b2, b3, b4, b5⟩ := h2
  refine ⟨by omega, fun q => b2 (a2 q), fun a ha => (b3 a (by omega)).trans (a3 a ha), fun a k ha hf => ?_, fun a ha hs => ?_⟩
  · rw [b4 a k (by omega) (by rw [a3 a ha]; exact hf), a4 a k ha hf]
  · have q := b5 a (by omega) (by rw [FrM_mo h1 ha]; exact hs)
    have r := a5 a ha hs
    exact ⟨fun i => (q.1 i).trans (r.1 i), fun i => (q.2 i).trans (r.2 i)⟩
theorem FrM.mono {T : Nat → Bool} (h : FrM S M M1) (hs : ∀ m, S m = true → T m = true) : FrM T M M1 := by
  refine ⟨h.1, h.2.1, h.2.2.1, h.2.2.2.1, fun a ha ht => h.2.2.2.2 a ha ?_⟩
  cases hq : S (mo M a) with
  | false => rfl
  | true => rw [hs _ hq] at ht; cases ht
theorem FrM_sI (h : S (mo M a) = true) : FrM S M (sI M a k v) := by
  refine ⟨Nat.le_refl _, id, fun _ _ => rfl, fun _ _ _ _ => rfl, fun b hb hs => ⟨fun i => ?_, fun _ => rfl⟩⟩
  exact st2_ne (fun q => by rw [q.1, h] at hs; cases hs)
theorem FrM_sR (h : S (mo M a) = true) (hf : finR (kd M a).1 k = false) : FrM S M (sR M a k v) := by
  refine ⟨Nat.le_refl _, id, fun _ _ => rfl, fun b j hb hj => ?_, fun b hb hs => ⟨fun _ => rfl, fun i => ?_⟩⟩
  · rw [rR_sR, if_neg (fun q => by rw [q.1, q.2, hf] at hj; cases hj)]
  · exact st2_ne (fun q => by rw [q.1, h] at hs; cases hs)
theorem FrM_nwo {ci l t : Nat} : FrM S M (nwo M ci l t) := by
  refine ⟨Nat.le_succ _, fun hu b hb => ?_, fun b hb => ?_, fun b j hb _ => ?_, fun b hb _ => ⟨fun i => ?_, fun i => ?_⟩⟩
  · rw [nN_nwo] at hb
    rw [kd_nwo, if_neg (by omega)]; exact hu b (by omega)
  · rw [kd_nwo, if_neg (by omega)]
  · rw [rR_nwo, if_neg (by omega)]
  · exact if_neg (Nat.ne_of_lt hb)
  · exact if_neg (Nat.ne_of_lt hb)
theorem FrM_nw {l : Nat} : FrM S M (nw M k l) := by
  refine ⟨Nat.le_succ _, fun hu b hb => ?_, fun b hb => ?_, fun b j hb _ => ?_, fun b hb _ => ⟨fun i => ?_, fun i => ?_⟩⟩
  · rw [nN_nw] at hb
    rw [kd_nw, if_neg (by omega)]; exact hu b (by omega)
  · rw [kd_nw, if_neg (by omega)]
  · rw [rR_nw, if_neg (by omega)]
  · exact if_neg (Nat.ne_of_lt hb)
  · exact if_neg (Nat.ne_of_lt hb)
theorem FrM_ex {A : Nat → Prop} (h : Ex A M M1) (hs : ∀ a, a < nN M → A a → S (mo M a) = true) : FrM S M M1 := by
  refine ⟨by rw [h.nN]; exact Nat.le_refl _, fun hu b hb => by rw [h.kd]; exact hu b (by rw [h.nN] at hb; exact hb), fun b _ => h.kd b, fun b j _ _ => h.rR b j, fun b hb hq => ⟨fun i => h.1 b (fun q => ?_) i, fun i => h.rR b i⟩⟩
  rw [hs b hb q] at hq; cases hq
/-- writing into cells that are new is nothing to those that were -/
theorem FrM_sI_new (h1 : FrM S M M1) (hn : nN M ≤ a) : FrM S M (sI M1 a k v) := by
  obtain ⟨a1, a2, a3, a4, a5⟩ := h1
  refine ⟨a1, a2, a3, a4, fun b hb hs => ⟨fun i => ?_, (a5 b hb hs).2⟩⟩
  exact (st2_ne (fun q => by have := q.1; omega)).trans ((a5 b hb hs).1 i)
theorem FrM_sR_new (h1 : FrM S M M1) (hn : nN M ≤ a) : FrM S M (sR M1 a k v) := by
  obtain ⟨a1, a2, a3, a4, a5⟩ := h1
  refine ⟨a1, a2, a3, fun b j hb hj => ?_, fun b hb hs => ⟨(a5 b hb hs).1, fun i => ?_⟩⟩
  · rw [rR_sR, if_neg (fun q => by have := q.1; omega)]; exact a4 b j hb hj
  · exact (st2_ne (fun q => by have := q.1; omega)).trans ((a5 b hb hs).2 i)
theorem UN.lt (hu : UN M) (h : (kd M a).1 ≠ 63) : a < nN M := Nat.not_le.mp (fun q => h (hu a q))
theorem isK_lt (hu : UN M) (h : isK M a) : a + 1 < nN M := hu.lt (by rw [h.2.2]; decide)
theorem isP_lt (hu : UN M) (h : isP M a) : a + 1 < nN M := hu.lt (by rw [h.2.2]; decide)
theorem isK_fr (h : FrM S M M1) (hu : UN M) (hk : isK M a) : isK M1 a := by
  have hl := isK_lt hu hk
  exact ⟨by rw [h.2.2.1 a (by omega)]; exact hk.1, by rw [h.2.2.2.1 a 0 (by omega) (by rw [hk.1]; decide)]; exact hk.2.1, by rw [h.2.2.1 (a + 1) hl]; exact hk.2.2⟩
theorem isP_fr (h : FrM S M M1) (hu : UN M) (hk : isP M a) : isP M1 a := by
  have hl := isP_lt hu hk
  exact ⟨by rw [h.2.2.1 a (by omega)]; exact hk.1, by rw [h.2.2.2.1 a 0 (by omega) (by rw [hk.1]; decide)]; exact hk.2.1, by rw [h.2.2.1 (a + 1) hl]; exact hk.2.2⟩
theorem fr_rI (h : FrM S M M1) (ha : a < nN M) (hs : S (mo M a) = false) (i : Nat) : rI M1 a i = rI M a i := by
  show w32 _ = w32 _
  rw [(h.2.2.2.2 a ha hs).1 i]
theorem fr_rU (h : FrM S M M1) (ha : a < nN M) (hs : S (mo M a) = false) (i : Nat) : rU M1 a i = rU M a i := by
  show _ % 256 = _ % 256
  rw [(h.2.2.2.2 a ha hs).1 i]
theorem fr_rR (h : FrM S M M1) (ha : a < nN M) (hs : S (mo M a) = false) (i : Nat) : rR M1 a i = rR M a i := (h.2.2.2.2 a ha hs).2 i
end FRM

