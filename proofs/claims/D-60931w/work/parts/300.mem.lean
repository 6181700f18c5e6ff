/-! STAGE 2: words of the flat memory -/
def rI (M : MM) (a k : Nat) : Int := w32 (M.1 a k)
def rB (M : MM) (a k : Nat) : Int := sx8 (M.1 a k)
def rR (M : MM) (a k : Nat) : Int := M.2.1 a k
def kd (M : MM) (a : Nat) : Nat × Nat := M.2.2.1 a
def nN (M : MM) : Nat := M.2.2.2.1
def nU (M : MM) : Nat := M.2.2.2.2
def sI (M : MM) (a k : Nat) (v : Int) : MM := (st2 M.1 a k v, M.2)
def sR (M : MM) (a k : Nat) (v : Int) : MM := (M.1, st2 M.2.1 a k v, M.2.2)
section MEM
variable {M : MM} {a b k j ci t l : Nat} {v i : Int}
theorem rI_sI : rI (sI M a k v) b j = if b = a ∧ j = k then w32 v else rI M b j := by
  unfold rI sI st2; simp only; split <;> rfl
theorem rB_sI : rB (sI M a k v) b j = if b = a ∧ j = k then sx8 v else rB M b j := by
  unfold rB sI st2; simp only; split <;> rfl
theorem rI_sR : rI (sR M a k v) b j = rI M b j := rfl
theorem rB_sR : rB (sR M a k v) b j = rB M b j := rfl
theorem rR_sI : rR (sI M a k v) b j = rR M b j := rfl
theorem rR_sR : rR (sR M a k v) b j = if b = a ∧ j = k then v else rR M b j := rfl
theorem kd_sI : kd (sI M a k v) b = kd M b := rfl
theorem kd_sR : kd (sR M a k v) b = kd M b := rfl
theorem nN_sI : nN (sI M a k v) = nN M := rfl
theorem nN_sR : nN (sR M a k v) = nN M := rfl
theorem nU_sI : nU (sI M a k v) = nU M := rfl
theorem nU_sR : nU (sR M a k v) = nU M := rfl
theorem rI_nwo : rI (nwo M ci l t) b j = if b = nN M then 0 else rI M b j := by
  unfold rI nwo nN; simp only; split <;> rfl
theorem rB_nwo : rB (nwo M ci l t) b j = if b = nN M then 0 else rB M b j := by
  unfold rB nwo nN; simp only; split <;> rfl
theorem rR_nwo : rR (nwo M ci l t) b j = if b = nN M then -1 else rR M b j := rfl
theorem kd_nwo : kd (nwo M ci l t) b = if b = nN M then (ci, t) else kd M b := rfl
theorem nN_nwo : nN (nwo M ci l t) = nN M + 1 := rfl
theorem nU_nwo : nU (nwo M ci l t) = nU M + l := rfl
theorem rI_nw : rI (nw M k l) b j = if b = nN M then 0 else rI M b j := by
  unfold rI nw nN; simp only; split <;> rfl
theorem rB_nw : rB (nw M k l) b j = if b = nN M then 0 else rB M b j := by
  unfold rB nw nN; simp only; split <;> rfl
theorem rR_nw : rR (nw M k l) b j = if b = nN M then -1 else rR M b j := rfl
theorem kd_nw : kd (nw M k l) b = if b = nN M then (k, l) else kd M b := rfl
theorem nN_nw : nN (nw M k l) = nN M + 1 := rfl
theorem nU_nw : nU (nw M k l) = nU M + l := rfl
theorem ck_e {α : Type} {x : Option α} (h : (kd M a).1 = ci) : ck ci (a : Int) M x = x := by
  unfold ck
  have e : (M.2.2.1 (a : Int).toNat).1 = ci := by rw [Int.toNat_natCast]; exact h
  exact if_pos ⟨Int.natCast_nonneg a, e⟩
theorem gfi_e (h : (kd M a).1 = ci) : gfi ci k (a : Int) M = some (rI M a k) := ck_e h
theorem gfr_e (h : (kd M a).1 = ci) : gfr ci k (a : Int) M = some (rR M a k) := ck_e h
theorem pfi_e (h : (kd M a).1 = ci) : pfi ci k (a : Int) v M = some (sI M a k v) := ck_e h
theorem pfr_e (h : (kd M a).1 = ci) : pfr ci k (a : Int) v M = some (sR M a k v) := ck_e h
theorem pfz_e (h : (kd M a).1 = ci) (hv : v = 0 ∨ v = 1) : pfz ci k (a : Int) v M = some (sI M a k v) := by
  unfold pfz
  rw [ck_e h, if_pos hv]
  rfl
theorem ain_e {α : Type} {x : Option α} (h : kd M a = (k, l)) (h1 : 64 ≤ k) (h2 : k % 16 = t) (hi : w32 i = (j : Int)) (hj : j < l) : ain t (a : Int) i M x = x := by
  unfold ain
  have e : M.2.2.1 (a : Int).toNat = (k, l) := by rw [Int.toNat_natCast]; exact h
  rw [e, hi]
  exact if_pos ⟨Int.natCast_nonneg a, h1, h2, Int.natCast_nonneg j, by exact_mod_cast hj⟩
theorem lai_e (h : kd M a = (k, l)) (h1 : 64 ≤ k) (h2 : k % 16 = 0) (hi : w32 i = (j : Int)) (hj : j < l) : lai (a : Int) i M = some (rI M a j) := by
  unfold lai
  rw [ain_e h h1 h2 hi hj, hi, Int.toNat_natCast, Int.toNat_natCast]
  rfl
theorem lab_e (h : kd M a = (k, l)) (h1 : 64 ≤ k) (h2 : k % 16 = 1) (hi : w32 i = (j : Int)) (hj : j < l) : lab (a : Int) i M = some (rB M a j) := by
  unfold lab
  rw [ain_e h h1 h2 hi hj, hi, Int.toNat_natCast, Int.toNat_natCast]
  rfl
theorem laz_e (h : kd M a = (k, l)) (h1 : 64 ≤ k) (h2 : k % 16 = 2) (hi : w32 i = (j : Int)) (hj : j < l) : laz (a : Int) i M = some (rI M a j) := by
  unfold laz
  rw [ain_e h h1 h2 hi hj, hi, Int.toNat_natCast, Int.toNat_natCast]
  rfl
theorem lar_e (h : kd M a = (k, l)) (h1 : 64 ≤ k) (h2 : k % 16 = t) (hi : w32 i = (j : Int)) (hj : j < l) : lar t (a : Int) i M = some (rR M a j) := by
  unfold lar
  rw [ain_e h h1 h2 hi hj, hi, Int.toNat_natCast, Int.toNat_natCast]
  rfl
theorem sai_e (h : kd M a = (k, l)) (h1 : 64 ≤ k) (h2 : k % 16 = 0) (hi : w32 i = (j : Int)) (hj : j < l) : sai (a : Int) i v M = some (sI M a j v) := by
  unfold sai
  rw [ain_e h h1 h2 hi hj, hi, Int.toNat_natCast, Int.toNat_natCast]
  rfl
theorem sab_e (h : kd M a = (k, l)) (h1 : 64 ≤ k) (h2 : k % 16 = 1) (hi : w32 i = (j : Int)) (hj : j < l) : sab (a : Int) i v M = some (sI M a j v) := by
  unfold sab
  rw [ain_e h h1 h2 hi hj, hi, Int.toNat_natCast, Int.toNat_natCast]
  rfl
theorem saz_e (h : kd M a = (k, l)) (h1 : 64 ≤ k) (h2 : k % 16 = 2) (hi : w32 i = (j : Int)) (hj : j < l) (hv : v = 0 ∨ v = 1) : saz (a : Int) i v M = some (sI M a j v) := by
  unfold saz
  rw [ain_e h h1 h2 hi hj, if_pos hv, hi, Int.toNat_natCast, Int.toNat_natCast]
  rfl
theorem sar_e (h : kd M a = (k, l)) (h1 : 64 ≤ k) (h2 : k % 16 = t) (hi : w32 i = (j : Int)) (hj : j < l) (hb : (kd M b).1 = ecl t) : sar t (a : Int) i (b : Int) M = some (sR M a j (b : Int)) := by
  unfold sar
  rw [ain_e h h1 h2 hi hj, hi, Int.toNat_natCast, Int.toNat_natCast, ck_e hb]
  rfl
theorem aln_e (h : kd M a = (k, l)) (h1 : 64 ≤ k) (h2 : k % 16 = t) : aln t (a : Int) M = some (l : Int) := by
  unfold aln
  have e : M.2.2.1 (a : Int).toNat = (k, l) := by rw [Int.toNat_natCast]; exact h
  rw [e]
  exact if_pos ⟨Int.natCast_nonneg a, h1, h2⟩
theorem nar_e (hi : w32 i = (j : Int)) (hj : j ≤ 1000000) : nar k i M = some ((nN M : Int), nw M k j) := by
  unfold nar
  rw [hi, if_pos ⟨Int.natCast_nonneg j, by omega⟩, Int.toNat_natCast]
  rfl
theorem nob_e : nob ci l t M = some ((nN M : Int), nwo M ci l t) := rfl
theorem nn_e {α : Type} {x : Option α} : nn (a : Int) x = x := if_pos (Int.natCast_nonneg a)
theorem bz_e {α : Type} {x : Option α} (h : v = 0 ∨ v = 1) : bz v x = x := if_pos h
end MEM
theorem w32_n {n : Nat} (h : n ≤ 2147483647) : w32 (n : Int) = n := w32_id (by omega) (by omega)
theorem w32_rI {M : MM} {a k : Nat} : w32 (rI M a k) = rI M a k := w32_w32 _
theorem rI_lo {M : MM} {a k : Nat} : -2147483648 ≤ rI M a k := w32_lo _
theorem rI_hi {M : MM} {a k : Nat} : rI M a k ≤ 2147483647 := w32_hi _
/-- loops by an explicit row of states -/
theorem lp_seq {σ ρ : Type} {b : σ → Option (σ ⊕ ρ)} {x : Option ρ} (st : Nat → σ) (m : Nat) (hs : ∀ i, i < m → b (st i) = some (.inl (st (i + 1)))) (hx : b (st m) = xit x) : ∀ n i, i ≤ m → m - i < n → lpN b n (st i) = x
  | 0, i, _, h2 => by omega
  | n + 1, i, h1, h2 => by
    by_cases hi : i = m
    · subst hi
      exact lpN_xit hx
    · rw [lpN_cnt (hs i (by omega))]
      exact lp_seq st m hs hx n (i + 1) (by omega) (by omega)
/-- the same with an invariant -/
theorem lp_inv {σ ρ : Type} {b : σ → Option (σ ⊕ ρ)} (Inv : Nat → σ → Prop) (m : Nat) (hs : ∀ i s, i < m → Inv i s → ∃ s', b s = some (.inl s') ∧ Inv (i + 1) s') : ∀ n i s, i ≤ m → m - i < n → Inv i s → ∃ s' n', 0 < n' ∧ Inv m s' ∧ lpN b n s = lpN b n' s'
  | 0, i, s, _, h2, _ => by omega
  | n + 1, i, s, h1, h2, h3 => by
    by_cases hi : i = m
    · subst hi
      exact ⟨s, n + 1, by omega, h3, rfl⟩
    · obtain ⟨s', e, h4⟩ := hs i s (by omega) h3
      obtain ⟨s2, n2, q1, q2, q3⟩ := lp_inv Inv m hs n (i + 1) s' (by omega) (by omega) h4
      exact ⟨s2, n2, q1, q2, by rw [lpN_cnt e]; exact q3⟩
theorem lpN_end {σ ρ : Type} {b : σ → Option (σ ⊕ ρ)} {n : Nat} {s : σ} {x : Option ρ} (hn : 0 < n) (h : b s = xit x) : lpN b n s = x := by
  obtain ⟨m, rfl⟩ : ∃ m, n = m + 1 := ⟨n - 1, by omega⟩
  exact lpN_xit h
