theorem sx8_bmod (x : Int) : sx8 x = Int.bmod x 256 := by
  unfold sx8
  rw [Int8.toInt_toInt32, Int32.toInt_toInt8]
  show Int.bmod (w32 x) (2 ^ 8) = _
  have h : w32 x = Int.bmod x (2 ^ 32) := by
    show (BitVec.ofInt 32 x).toInt = _
    rw [BitVec.toInt_ofInt]
  rw [h, Int.bmod_bmod_of_dvd (by decide)]
theorem band255 (x : Int) : band x 255 = x % 256 := by
  have h := u32_band x 255
  rw [show u32 255 = 2 ^ 8 - 1 by decide, Nat.and_two_pow_sub_one_eq_mod] at h
  have h2 := u32_emod x
  have h3 : w32 (band x 255) = band x 255 := w32_toInt _
  rw [← h3, w32_u32, h, if_pos (by omega)]
  omega
theorem bm256 (x : Int) : Int.bmod x 256 % 256 = x % 256 := Int.bmod_emod (x := x) (m := 256)
def rU (M : MM) (a j : Nat) : Int := M.1 a j % 256
theorem rU_lo {M : MM} {a j : Nat} : 0 ≤ rU M a j := Int.emod_nonneg _ (by decide)
theorem rU_hi {M : MM} {a j : Nat} : rU M a j < 256 := Int.emod_lt_of_pos _ (by decide)
theorem band_rB {M : MM} {a j : Nat} : band (rB M a j) 255 = rU M a j := by
  rw [band255]
  unfold rB rU
  rw [sx8_bmod, bm256]
theorem rB_emod {M : MM} {a j : Nat} : rB M a j % 256 = rU M a j := by rw [← band255, band_rB]
theorem sx8_emod (x : Int) : sx8 x % 256 = x % 256 := by rw [sx8_bmod, bm256]
theorem rU_sI {M : MM} {a k b j : Nat} {v : Int} : rU (sI M a k v) b j = if b = a ∧ j = k then v % 256 else rU M b j := by
  unfold rU sI st2; simp only; split <;> rfl
theorem Ex.rU {A : Nat → Prop} {M M1 : MM} (h : Ex A M M1) {a : Nat} (ha : ¬ A a) (i : Nat) : rU M1 a i = rU M a i := by
  show M1.1 a i % 256 = M.1 a i % 256
  rw [h.1 a ha i]
theorem schW_congr {B C : Nat → Int} (h : ∀ j, j < 64 → B j = C j) : schW B = schW C := by
  funext t
  induction t using Nat.strongRecOn with
  | _ t ih =>
    by_cases ht : t < 16
    · rw [schW_lt ht, schW_lt ht]
      unfold wrd
      rw [h (4 * t) (by omega), h (4 * t + 1) (by omega), h (4 * t + 2) (by omega), h (4 * t + 3) (by omega)]
    · rw [schW_ge ht, schW_ge ht, ih (t - 3) (by omega), ih (t - 8) (by omega), ih (t - 14) (by omega), ih (t - 16) (by omega)]
theorem shc_congr {h h' B C : Nat → Int} (hh : ∀ i, i < 5 → h i = h' i) (hB : ∀ j, j < 64 → B j = C j) : shc h B = shc h' C := by
  funext i
  unfold shc
  rw [schW_congr hB, hh 0 (by omega), hh 1 (by omega), hh 2 (by omega), hh 3 (by omega), hh 4 (by omega)]
theorem pdb_congr {f f' : Nat → Int} {n : Nat} (h : ∀ i, i < n → f i = f' i) : pdb f n = pdb f' n := by
  funext i
  unfold pdb
  split
  · next hi => exact h i hi
  · rfl
theorem sha1_congr {f f' : Nat → Int} {n : Nat} (h : ∀ i, i < n → f i = f' i) : sha1 f n = sha1 f' n := by
  unfold sha1; rw [pdb_congr h]
theorem sha1_ok (f : Nat → Int) (n : Nat) (i : Nat) : w32 (sha1 f n i) = sha1 f n i := shb_ok _ _ _
/-- Sha.of: the hash of the first n bytes of an array comes to a key -/
theorem e_X8_of {M : MM} (hM : isSha M) {x kx lx n b : Nat} (hx : kd M x = (kx, lx)) (hk1 : 64 ≤ kx) (hk2 : kx % 16 = 1) (hx27 : x ≠ 27) (hn : n ≤ lx) (hn5 : n ≤ 500) (hb : isK M b) :
    ∃ M', f_X8_of ((24 : Nat) : Int) (x : Int) (n : Int) (b : Int) M = some M' ∧ (∀ i, i < 5 → rI M' (b + 1) i = sha1 (fun i => rU M x i) n i) ∧ Ex (fun a => a = 25 ∨ a = 26 ∨ a = 27 ∨ a = b + 1) M M' := by
  have hb8 : nbl n ≤ 8 := by unfold nbl; omega
  have hb9 : n + 9 ≤ 64 * nbl n := by unfold nbl; omega
  have hd : dvi ((n : Int) + 8) 64 = some (((n + 8) / 64 : Nat) : Int) := dvi_e (p := n + 8) (q := 64) (by rw [w32_id (by omega) (by omega)]; omega) (by decide) (by decide)
  have hwn : w32 (n : Int) = (n : Int) := w32_id (by omega) (by omega)
  have hnb : (((n + 8) / 64 : Nat) : Int) + 1 = ((nbl n : Nat) : Int) := by unfold nbl; omega
  have hx25 : x ≠ 25 := fun q => by rw [q, hM.2.2.2.2.1] at hx; cases hx; omega
  have hx26 : x ≠ 26 := fun q => by rw [q, hM.2.2.2.2.2.1] at hx; cases hx; omega
  have hxb : x ≠ b + 1 := fun q => by rw [q, hb.2.2] at hx; cases hx; omega
  have hb25 : b + 1 ≠ 25 := fun q => by have := hM.2.2.2.2.1; rw [← q, hb.2.2] at this; cases this
  let f : Nat → Int := fun i => rU M x i
  generalize hN : nbl n = N at hb8 hb9 hnb
  -- a block is filled
  have fill : ∀ (k : Nat) (W : MM), k < N → Ex (fun a => a = 25 ∨ a = 26 ∨ a = 27) M W → ∃ W', l_X8_of_64 ((24 : Nat) : Int) (x : Int) (n : Int) (b : Int) (N : Int) (k : Int) 0 W = j_X8_of_151 ((24 : Nat) : Int) (x : Int) (n : Int) (b : Int) (N : Int) (k : Int) W' ∧ (∀ j, j < 64 → rU W' 27 j = pdb f n (64 * k + j)) ∧ Ex (fun a => a = 27) W W' := by
    intro k W hk hW
    obtain ⟨⟨x2, W2⟩, n2, hn2, hI2, q2⟩ := lp_inv (b := fun s : Int × MM => b_X8_of_64 ((24 : Nat) : Int) (x : Int) (n : Int) (b : Int) (N : Int) (k : Int) s.1 s.2) (fun t s => s.1 = (t : Int) ∧ (∀ j, j < t → rU s.2 27 j = pdb f n (64 * k + j)) ∧ Ex (fun a => a = 27) W s.2) 64
      (fun t s ht hs => by
        obtain ⟨z, U⟩ := s
        obtain ⟨rfl, h2, h3⟩ := hs
        simp only at h2 h3
        have hU := (hM.ex hW).ex h3
        have hw := w32_j (j := t) (by omega)
        have e1 : w32 (64 * (k : Int) + (t : Int)) = ((64 * k + t : Nat) : Int) := by rw [w32_id (by omega) (by omega)]; omega
        have e2 : w32 (64 * (N : Int) - 1 - (64 * (k : Int) + (t : Int))) = ((64 * N - 1 - (64 * k + t) : Nat) : Int) := by rw [w32_id (by omega) (by omega)]; omega
        have hkx : kd U x = (kx, lx) := by rw [h3.kd, hW.kd]; exact hx
        have key : ∀ v : Int, v % 256 = pdb f n (64 * k + t) → ∃ s', j_X8_of_144 ((24 : Nat) : Int) (x : Int) (n : Int) (b : Int) (N : Int) (k : Int) (t : Int) ((27 : Nat) : Int) (t : Int) v U = some (.inl s') ∧ s'.1 = ((t + 1 : Nat) : Int) ∧ (∀ j, j < t + 1 → rU s'.2 27 j = pdb f n (64 * k + j)) ∧ Ex (fun a => a = 27) W s'.2 := by
          intro v hv
          refine ⟨(((t + 1 : Nat) : Int), sI U 27 t v), ?_, rfl, ?_, h3.trans (Ex.st rfl)⟩
          · unfold j_X8_of_144
            rw [hU.s2 hw (by omega)]
            rfl
          · intro j hj
            show rU (sI U 27 t v) 27 j = _
            rw [rU_sI]
            by_cases hjt : j = t
            · rw [if_pos ⟨rfl, hjt⟩, hjt]; exact hv
            · rw [if_neg (fun q => hjt q.2)]; exact h2 j (by omega)
        show ∃ s', b_X8_of_64 _ _ _ _ _ _ _ _ = _ ∧ _
        unfold b_X8_of_64
        simp only [hw, show w32 64 = 64 by decide, if_pos (show (t : Int) < 64 by omega), hU.g2, Option.bind_some, e1, hwn, e2, show w32 4 = 4 by decide]
        by_cases c1 : 64 * k + t < n
        · rw [if_pos (by omega), lab_e hkx hk1 hk2 e1 (by omega), Option.bind_some]
          refine key _ ?_
          rw [rB_emod, h3.rU hx27, hW.rU (by omega)]
          unfold pdb
          rw [if_pos c1]
        · rw [if_neg (by omega)]
          by_cases c2 : 64 * k + t = n
          · rw [if_pos (by omega)]
            refine key _ ?_
            unfold pdb
            rw [if_neg c1, if_pos c2]; decide
          · rw [if_neg (by omega)]
            by_cases c3 : 64 * N - 1 - (64 * k + t) < 4
            · rw [if_pos (by omega)]
              refine key _ ?_
              unfold pdb
              rw [if_neg c1, if_neg c2, hN, if_pos c3, sx8_emod, band255]
              congr 3
              omega
            · rw [if_neg (by omega)]
              refine key _ ?_
              unfold pdb
              rw [if_neg c1, if_neg c2, hN, if_neg c3]; decide) FU 0 (0, W) (by decide) (by decide) ⟨rfl, fun j hj => by omega, Ex.refl⟩
    obtain ⟨rfl, hm2, hx2⟩ := hI2
    refine ⟨W2, ?_, hm2, hx2⟩
    unfold l_X8_of_64
    refine Eq.trans q2 ?_
    refine lpN_end hn2 ?_
    show b_X8_of_64 _ _ _ _ _ _ ((64 : Nat) : Int) _ = _
    unfold b_X8_of_64
    rw [if_neg (by decide)]
  have st : ∀ (M1 : MM) (j : Nat) (v : Int), isSha M1 → isSha (sI M1 25 j v) := fun M1 j v h => h
  have b0 := st M 0 1732584193 hM
  have b1 := st _ 1 (-271733879) b0
  have b2 := st _ 2 (-1732584194) b1
  have b3 := st _ 3 271733878 b2
  let M5 := sI (sI (sI (sI (sI M 25 0 1732584193) 25 1 (-271733879)) 25 2 (-1732584194)) 25 3 271733878) 25 4 (-1009589776)
  have hx5 : Ex (fun a => a = 25 ∨ a = 26 ∨ a = 27) M M5 := by
    have r : Ex (fun a => a = 25 ∨ a = 26 ∨ a = 27) M M := Ex.refl
    exact ((((r.trans (Ex.st (Or.inl rfl))).trans (Ex.st (Or.inl rfl))).trans (Ex.st (Or.inl rfl))).trans (Ex.st (Or.inl rfl))).trans (Ex.st (Or.inl rfl))
  have hh5 : ∀ i, i < 5 → rI M5 25 i = sh0 i := by
    intro i hi
    have h5 : i = 0 ∨ i = 1 ∨ i = 2 ∨ i = 3 ∨ i = 4 := by omega
    show rI (sI _ _ _ _) 25 i = _
    simp only [rI_sI]
    rcases h5 with rfl | rfl | rfl | rfl | rfl <;> simp [sh0] <;> decide
  -- the blocks
  obtain ⟨⟨x6, W6⟩, n6, hn6, hI6, q6⟩ := lp_inv (b := fun s : Int × MM => b_X8_of_54 ((24 : Nat) : Int) (x : Int) (n : Int) (b : Int) (N : Int) s.1 s.2) (fun k s => s.1 = (k : Int) ∧ (∀ i, i < 5 → rI s.2 25 i = shb (pdb f n) k i) ∧ Ex (fun a => a = 25 ∨ a = 26 ∨ a = 27) M s.2) N
    (fun k s hk hs => by
      obtain ⟨z, W⟩ := s
      obtain ⟨rfl, h2, h3⟩ := hs
      simp only at h2 h3
      obtain ⟨W1, e1, e2, e3⟩ := fill k W hk h3
      have h4 : Ex (fun a => a = 25 ∨ a = 26 ∨ a = 27) M W1 := h3.trans (e3.mono (fun a h => Or.inr (Or.inr h)))
      obtain ⟨W2, g1, g2, g3⟩ := e_X8_work (hM.ex h4)
      refine ⟨(((k + 1 : Nat) : Int), W2), ?_, rfl, ?_, h4.trans (g3.mono (fun a h => h.elim Or.inl (fun q => Or.inr (Or.inl q))))⟩
      · show b_X8_of_54 _ _ _ _ _ _ _ = _
        unfold b_X8_of_54
        rw [w32_j (j := k) (by omega), w32_j (j := N) (by omega), if_pos (by omega), e1]
        unfold j_X8_of_151
        rw [ck_e (hM.ex h4).1, g1]
        rfl
      · intro i hi
        show rI W2 25 i = shc (shb (pdb f n) k) (fun j => pdb f n (64 * k + j)) i
        rw [g2 i hi]
        refine congrFun (shc_congr (fun i hi => ?_) (fun j hj => ?_)) i
        · rw [e3.rI (by decide), h2 i hi]
        · rw [band_rB, e2 j hj]) FU 0 (0, M5) (by omega) (by unfold FU; omega) ⟨rfl, fun i hi => hh5 i hi, hx5⟩
  obtain ⟨rfl, hh6, hx6⟩ := hI6
  simp only at hh6 hx6
  -- to the key
  have hK6 : ∀ U, Ex (fun a => a = b + 1) W6 U → isK U b ∧ isSha U := by
    intro U hU
    refine ⟨⟨by rw [hU.kd, hx6.kd]; exact hb.1, by rw [hU.rR, hx6.rR]; exact hb.2.1, by rw [hU.kd, hx6.kd]; exact hb.2.2⟩, (hM.ex hx6).ex hU⟩
  obtain ⟨⟨x7, W7⟩, n7, hn7, hI7, q7⟩ := lp_inv (b := fun s : Int × MM => b_X8_of_164 ((24 : Nat) : Int) (b : Int) s.1 s.2) (fun t s => s.1 = (t : Int) ∧ (∀ j, j < t → rI s.2 (b + 1) j = rI W6 25 j) ∧ Ex (fun a => a = b + 1) W6 s.2) 5
    (fun t s ht hs => by
      obtain ⟨z, U⟩ := s
      obtain ⟨rfl, h2, h3⟩ := hs
      simp only at h2 h3
      obtain ⟨k1, k2⟩ := hK6 U h3
      have hw := w32_j (j := t) (by omega)
      refine ⟨(((t + 1 : Nat) : Int), sI U (b + 1) t (rI U 25 t)), ?_, rfl, ?_, h3.trans (Ex.st rfl)⟩
      · show b_X8_of_164 _ _ _ _ = _
        unfold b_X8_of_164
        simp only [hw, w32_5, if_pos (show (t : Int) < 5 by omega), isK_gf k1, k2.g0, k2.l0 hw ht, Option.bind_some, sai_e k1.2.2 (by decide) (by decide) hw ht]
        rfl
      · intro j hj
        show rI (sI U (b + 1) t (rI U 25 t)) (b + 1) j = _
        rw [rI_sI]
        by_cases hjt : j = t
        · rw [if_pos ⟨rfl, hjt⟩, hjt, w32_rI, h3.rI (Ne.symm hb25)]
        · rw [if_neg (fun q => hjt q.2)]; exact h2 j (by omega)) FU 0 (0, W6) (by decide) (by decide) ⟨rfl, fun j hj => by omega, Ex.refl⟩
  obtain ⟨rfl, hh7, hx7⟩ := hI7
  simp only at hh7 hx7
  refine ⟨W7, ?_, ?_, (hx6.mono (fun a h => h.elim Or.inl (fun q => q.elim (fun r => Or.inr (Or.inl r)) (fun r => Or.inr (Or.inr (Or.inl r)))))).trans (hx7.mono (fun a h => Or.inr (Or.inr (Or.inr h))))⟩
  · unfold f_X8_of
    simp only [hM.g0, hM.s0 (i := 0) (j := 0) rfl (by decide), b0.g0, b0.s0 (i := 1) (j := 1) rfl (by decide), b1.g0, b1.s0 (i := 2) (j := 2) rfl (by decide), b2.g0, b2.s0 (i := 3) (j := 3) rfl (by decide), b3.g0, b3.s0 (i := 4) (j := 4) rfl (by decide), Option.bind_some, hd, hnb]
    unfold l_X8_of_54
    refine Eq.trans q6 ?_
    refine Eq.trans (lpN_end (x := j_X8_of_161 ((24 : Nat) : Int) (b : Int) W6) hn6 ?_) ?_
    · show b_X8_of_54 _ _ _ _ _ (N : Int) W6 = _
      unfold b_X8_of_54
      rw [if_neg (by omega)]
    unfold j_X8_of_161 l_X8_of_164
    refine Eq.trans q7 ?_
    refine lpN_end hn7 ?_
    show b_X8_of_164 _ _ ((5 : Nat) : Int) W7 = _
    unfold b_X8_of_164
    rw [if_neg (by decide)]
  · intro i hi
    rw [hh7 i hi, hh6 i hi]
    show _ = shb (pdb f n) (nbl n) i
    rw [hN]
