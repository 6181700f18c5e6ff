/-! words of the reference's own memory -/
def vI (V : VV) (a i : Nat) : Int := w32 (V a i)
section VMEM
variable {V : VV} {a b n j k : Nat} {i v e : Int}
theorem vI_st2 : vI (st2 V a k v) b j = if b = a ∧ j = k then w32 v else vI V b j := by
  unfold vI st2; split <;> rfl
theorem w32_vI : w32 (vI V a j) = vI V a j := w32_w32 _
theorem l2_e (hi : w32 i = (j : Int)) (hj : j < n) : l2 a n i V = some (vI V a j) := by
  unfold l2
  rw [hi, if_pos ⟨Int.natCast_nonneg j, by exact_mod_cast hj⟩, Int.toNat_natCast]
  rfl
theorem s2_e (hi : w32 i = (j : Int)) (hj : j < n) : s2 a n i v V = some (st2 V a j v) := by
  unfold s2
  rw [hi, if_pos ⟨Int.natCast_nonneg j, by exact_mod_cast hj⟩, Int.toNat_natCast]
theorem s2z_e (hi : w32 i = (j : Int)) (hj : j < n) (hv : v = 0 ∨ v = 1) : s2z a n i v V = some (st2 V a j v) := by
  unfold s2z
  rw [hi, if_pos ⟨hv, Int.natCast_nonneg j, by exact_mod_cast hj⟩, Int.toNat_natCast]
theorem p2_e : p2 k v V = some (st2 V 156 k v) := rfl
theorem p2z_e (hv : v = 0 ∨ v = 1) : p2z k v V = some (st2 V 156 k v) := if_pos hv
/-- a is an array of n ints of the reference -/
def mA (a n : Nat) : Prop := 157 ≤ a ∧ a < 276 ∧ (mkd a).1 % 16 = 0 ∧ 64 ≤ (mkd a).1 ∧ (mkd a).2 = n
theorem lp_e (h : mA a n) (hi : w32 i = (j : Int)) (hj : j < n) : lp (a : Int) i V = some (vI V a j) := by
  obtain ⟨h1, h2, h3, h4, h5⟩ := h
  unfold lp
  rw [hi, Int.toNat_natCast, if_pos ⟨by omega, by omega, h3, h4, Int.natCast_nonneg j, by omega⟩, Int.toNat_natCast]
  rfl
theorem sp_e (h : mA a n) (hi : w32 i = (j : Int)) (hj : j < n) : sp (a : Int) i v V = some (st2 V a j v) := by
  obtain ⟨h1, h2, h3, h4, h5⟩ := h
  unfold sp
  rw [hi, Int.toNat_natCast, if_pos ⟨by omega, by omega, h3, h4, Int.natCast_nonneg j, by omega⟩, Int.toNat_natCast]
end VMEM
/-- V' is as V but at the arrays of A -/
def ExV (A : Nat → Prop) (V V' : VV) : Prop := ∀ a, ¬ A a → ∀ i, V' a i = V a i
theorem ExV.refl {A : Nat → Prop} {V : VV} : ExV A V V := fun _ _ _ => rfl
theorem ExV.trans {A : Nat → Prop} {V V1 V2 : VV} (h1 : ExV A V V1) (h2 : ExV A V1 V2) : ExV A V V2 := fun a h i => (h2 a h i).trans (h1 a h i)
theorem ExV.mono {A B : Nat → Prop} {V V1 : VV} (h : ExV A V V1) (hs : ∀ a, A a → B a) : ExV B V V1 := fun a hb i => h a (fun q => hb (hs a q)) i
theorem ExV.st {A : Nat → Prop} {V : VV} {a i : Nat} {v : Int} (h : A a) : ExV A V (st2 V a i v) := fun b hb j => st2_ne (fun q => hb (by rw [q.1]; exact h))
theorem ExV.vI {A : Nat → Prop} {V V1 : VV} (h : ExV A V V1) {a : Nat} (ha : ¬ A a) (i : Nat) : vI V1 a i = vI V a i := by
  show w32 (V1 a i) = w32 (V a i)
  rw [h a ha i]
/-- M' is as M but for the ints of the cells of A -/
def Ex (A : Nat → Prop) (M M' : MM) : Prop := (∀ a, ¬ A a → ∀ i, M'.1 a i = M.1 a i) ∧ M'.2 = M.2
theorem Ex.refl {A : Nat → Prop} {M : MM} : Ex A M M := ⟨fun _ _ _ => rfl, rfl⟩
theorem Ex.trans {A : Nat → Prop} {M M1 M2 : MM} (h1 : Ex A M M1) (h2 : Ex A M1 M2) : Ex A M M2 := ⟨fun a h i => (h2.1 a h i).trans (h1.1 a h i), h2.2.trans h1.2⟩
theorem Ex.mono {A B : Nat → Prop} {M M1 : MM} (h : Ex A M M1) (hs : ∀ a, A a → B a) : Ex B M M1 := ⟨fun a hb i => h.1 a (fun q => hb (hs a q)) i, h.2⟩
theorem Ex.st {A : Nat → Prop} {M : MM} {a i : Nat} {v : Int} (h : A a) : Ex A M (sI M a i v) := ⟨fun b hb j => st2_ne (fun q => hb (by rw [q.1]; exact h)), rfl⟩
theorem Ex.rI {A : Nat → Prop} {M M1 : MM} (h : Ex A M M1) {a : Nat} (ha : ¬ A a) (i : Nat) : rI M1 a i = rI M a i := by
  show w32 (M1.1 a i) = w32 (M.1 a i)
  rw [h.1 a ha i]
theorem Ex.rB {A : Nat → Prop} {M M1 : MM} (h : Ex A M M1) {a : Nat} (ha : ¬ A a) (i : Nat) : rB M1 a i = rB M a i := by
  show sx8 (M1.1 a i) = sx8 (M.1 a i)
  rw [h.1 a ha i]
theorem Ex.rR {A : Nat → Prop} {M M1 : MM} (h : Ex A M M1) (a i : Nat) : rR M1 a i = rR M a i := by
  show M1.2.1 a i = M.2.1 a i
  rw [h.2]
theorem Ex.kd {A : Nat → Prop} {M M1 : MM} (h : Ex A M M1) (a : Nat) : kd M1 a = kd M a := by
  show M1.2.2.1 a = M.2.2.1 a
  rw [h.2]
theorem Ex.nN {A : Nat → Prop} {M M1 : MM} (h : Ex A M M1) : nN M1 = nN M := by
  show M1.2.2.2.1 = M.2.2.2.1
  rw [h.2]
theorem Ex.nU {A : Nat → Prop} {M M1 : MM} (h : Ex A M M1) : nU M1 = nU M := by
  show M1.2.2.2.2 = M.2.2.2.2
  rw [h.2]
