theorem dvi_e {x y : Int} {p q : Nat} (hx : w32 x = (p : Int)) (hy : w32 y = (q : Int)) (hq : q ≠ 0) : dvi x y = some ((p / q : Nat) : Int) := by
  unfold dvi
  rw [hy, if_neg (by omega)]
  unfold idv
  rw [hx, hy]
  congr 1
theorem rmi_e {x y : Int} {p q : Nat} (hx : w32 x = (p : Int)) (hy : w32 y = (q : Int)) (hq : q ≠ 0) : rmi x y = some ((p % q : Nat) : Int) := by
  unfold rmi
  rw [hy, if_neg (by omega)]
  unfold irm
  rw [hx, hy]
  congr 1
theorem w32_255 (x : Int) : w32 (band x 255) = band x 255 := w32_toInt _
/-- the reference's hash of the first n of its message -/
theorem e_X16_sha {V : VV} {n : Nat} (hn : n ≤ 500) : ∃ V', f_X16_sha (n : Int) V = some V' ∧ (∀ i, i < 5 → vI V' 161 i = sha1 (fun i => vI V 159 i) n i) ∧ ExV (fun a => a = 159 ∨ a = 160 ∨ a = 161) V V' := by
  have hb : nbl n ≤ 8 := by unfold nbl; omega
  have hb2 : n + 9 ≤ 64 * nbl n := by unfold nbl; omega
  have hd : dvi ((n : Int) + 8) 64 = some (((n + 8) / 64 : Nat) : Int) := dvi_e (p := n + 8) (q := 64) (by rw [w32_id (by omega) (by omega)]; omega) (by decide) (by decide)
  have hsz : (((n + 8) / 64 : Nat) : Int) * 64 + 64 = ((64 * nbl n : Nat) : Int) := by unfold nbl; omega
  have hwz : w32 ((64 * nbl n : Nat) : Int) = ((64 * nbl n : Nat) : Int) := w32_id (by omega) (by omega)
  have hwn : w32 (n : Int) = (n : Int) := w32_id (by omega) (by omega)
  generalize hS : 64 * nbl n = sz at hsz hwz hb2
  have hsz2 : sz ≤ 512 := by omega
  let f : Nat → Int := fun i => vI V 159 i
  -- zeros
  let V1 := st2 V 159 n 128
  obtain ⟨⟨x2, W2⟩, n2, hn2, hI2, q2⟩ := lp_inv (b := fun s : Int × VV => b_X16_sha_27 (n : Int) (sz : Int) s.1 s.2) (fun t s => s.1 = ((n + 1 + t : Nat) : Int) ∧ (∀ i, i < n + 1 + t → vI s.2 159 i = if i < n then f i else if i = n then 128 else 0) ∧ ExV (fun a => a = 159) V s.2) (sz - (n + 1))
    (fun t s ht hs => by
      obtain ⟨z, W⟩ := s
      obtain ⟨rfl, h2, h3⟩ := hs
      have hw : w32 ((n + 1 + t : Nat) : Int) = ((n + 1 + t : Nat) : Int) := w32_id (by omega) (by omega)
      refine ⟨(((n + 1 + (t + 1) : Nat) : Int), st2 W 159 (n + 1 + t) 0), ?_, rfl, ?_, h3.trans (ExV.st rfl)⟩
      · show b_X16_sha_27 _ _ _ _ = _
        unfold b_X16_sha_27
        rw [hw, hwz, if_pos (by omega), s2_e hw (by omega)]
        rfl
      · intro i hi
        show vI (st2 W 159 (n + 1 + t) 0) 159 i = _
        rw [vI_st2]
        by_cases hit : i = n + 1 + t
        · rw [if_pos ⟨rfl, hit⟩, if_neg (by omega), if_neg (by omega)]; decide
        · rw [if_neg (fun q => hit q.2)]; exact h2 i (by omega)) FU 0 (((n : Int) + 1), V1) (by omega) (by unfold FU; omega) ⟨by simp, fun i hi => by
        show vI (st2 V 159 n 128) 159 i = _
        rw [vI_st2]
        by_cases hin : i = n
        · rw [if_pos ⟨rfl, hin⟩, if_neg (by omega), if_pos hin]; decide
        · rw [if_neg (fun q => hin q.2), if_pos (by omega)], ExV.st rfl⟩
  obtain ⟨rfl, hm2, hx2⟩ := hI2
  simp only at hm2 hx2
  rw [show n + 1 + (sz - (n + 1)) = sz by omega] at q2 hm2
  have hb2' : b_X16_sha_27 (n : Int) (sz : Int) ((sz : Nat) : Int) W2 = xit (j_X16_sha_45 (n : Int) (sz : Int) W2) := by
    unfold b_X16_sha_27
    rw [if_neg (by omega)]
  -- the length
  obtain ⟨⟨x3, W3⟩, n3, hn3, hI3, q3⟩ := lp_inv (b := fun s : Int × VV => b_X16_sha_53 (sz : Int) (8 * (n : Int)) s.1 s.2) (fun t s => s.1 = ((t : Nat) : Int) ∧ (∀ i, i < sz → vI s.2 159 i = if i < n then f i else if i = n then 128 else if sz - 1 - i < t then band (bush (8 * (n : Int)) (8 * ((sz - 1 - i : Nat) : Int))) 255 else 0) ∧ ExV (fun a => a = 159) V s.2) 4
    (fun t s ht hs => by
      obtain ⟨z, W⟩ := s
      obtain ⟨rfl, h2, h3⟩ := hs
      have hw := w32_j (j := t) (by omega)
      have hw2 : w32 ((sz : Int) - 1 - (t : Int)) = ((sz - 1 - t : Nat) : Int) := by rw [w32_id (by omega) (by omega)]; omega
      refine ⟨(((t + 1 : Nat) : Int), st2 W 159 (sz - 1 - t) (band (bush (8 * (n : Int)) (8 * (t : Int))) 255)), ?_, rfl, ?_, h3.trans (ExV.st rfl)⟩
      · show b_X16_sha_53 _ _ _ _ = _
        unfold b_X16_sha_53
        rw [hw, show w32 4 = 4 by decide, if_pos (by omega), s2_e hw2 (by omega)]
        rfl
      · intro i hi
        show vI (st2 W 159 (sz - 1 - t) _) 159 i = _
        rw [vI_st2]
        by_cases hit : i = sz - 1 - t
        · rw [if_pos ⟨rfl, hit⟩, if_neg (by omega), if_neg (by omega), if_pos (by omega), w32_255, show sz - 1 - i = t by omega]
        · rw [if_neg (fun q => hit q.2), h2 i hi]
          by_cases h1 : i < n
          · rw [if_pos h1, if_pos h1]
          · rw [if_neg h1, if_neg h1]
            by_cases h4 : i = n
            · rw [if_pos h4, if_pos h4]
            · rw [if_neg h4, if_neg h4]
              by_cases h5 : sz - 1 - i < t
              · rw [if_pos h5, if_pos (by omega)]
              · rw [if_neg h5, if_neg (by omega)]) FU 0 (0, W2) (by decide) (by decide) ⟨rfl, fun i hi => by
        show vI W2 159 i = _
        rw [hm2 i hi]
        by_cases h1 : i < n
        · rw [if_pos h1, if_pos h1]
        · rw [if_neg h1, if_neg h1]
          by_cases h4 : i = n
          · rw [if_pos h4, if_pos h4]
          · rw [if_neg h4, if_neg h4, if_neg (by omega)], hx2⟩
  obtain ⟨rfl, hm3, hx3⟩ := hI3
  simp only at hm3 hx3
  have hb3 : b_X16_sha_53 (sz : Int) (8 * (n : Int)) ((4 : Nat) : Int) W3 = xit (j_X16_sha_87 (sz : Int) W3) := by
    unfold b_X16_sha_53
    rw [if_neg (by decide)]
  have hpad : ∀ i, i < sz → vI W3 159 i = pdb f n i := by
    intro i hi
    rw [hm3 i hi]
    unfold pdb
    rw [hS]
  -- the sums begin
  let W4 := st2 (st2 (st2 (st2 (st2 W3 161 0 1732584193) 161 1 (-271733879)) 161 2 (-1732584194)) 161 3 271733878) 161 4 (-1009589776)
  have hx3' : ExV (fun a => a = 159 ∨ a = 160 ∨ a = 161) V W3 := hx3.mono (fun a h => Or.inl h)
  have hx4 : ExV (fun a => a = 159 ∨ a = 160 ∨ a = 161) V W4 := ((((hx3'.trans (ExV.st (Or.inr (Or.inr rfl)))).trans (ExV.st (Or.inr (Or.inr rfl)))).trans (ExV.st (Or.inr (Or.inr rfl)))).trans (ExV.st (Or.inr (Or.inr rfl)))).trans (ExV.st (Or.inr (Or.inr rfl)))
  have hm4 : ∀ i, vI W4 159 i = vI W3 159 i := fun i => by
    show vI (st2 _ _ _ _) 159 i = _
    simp only [vI_st2]
    simp
  have hh4 : ∀ i, i < 5 → vI W4 161 i = sh0 i := by
    intro i hi
    have h5 : i = 0 ∨ i = 1 ∨ i = 2 ∨ i = 3 ∨ i = 4 := by omega
    show vI (st2 _ _ _ _) 161 i = _
    simp only [vI_st2]
    rcases h5 with rfl | rfl | rfl | rfl | rfl <;> simp [sh0] <;> decide
  -- the blocks
  obtain ⟨⟨x5, W5⟩, n5, hn5, hI5, q5⟩ := lp_inv (b := fun s : Int × VV => b_X16_sha_135 (sz : Int) s.1 s.2) (fun k s => s.1 = ((64 * k : Nat) : Int) ∧ (∀ i, i < 5 → vI s.2 161 i = shb (pdb f n) k i) ∧ (∀ i, vI s.2 159 i = vI W3 159 i) ∧ ExV (fun a => a = 159 ∨ a = 160 ∨ a = 161) V s.2) (nbl n)
    (fun k s hk hs => by
      obtain ⟨z, W⟩ := s
      obtain ⟨rfl, h2, h3, h4⟩ := hs
      simp only at h2 h3 h4
      have hv : ∀ j, j < 64 → vI W 159 (64 * k + j) = pdb f n (64 * k + j) := fun j hj => by rw [h3, hpad _ (by omega)]
      have hw : w32 ((64 * k : Nat) : Int) = ((64 * k : Nat) : Int) := w32_id (by omega) (by omega)
      obtain ⟨W', e1, e2, e3⟩ := e_X16_block (V := W) (p := 64 * k) (by omega)
      refine ⟨(((64 * (k + 1) : Nat) : Int), W'), ?_, rfl, ?_, ?_, ?_⟩
      · show b_X16_sha_135 _ _ _ = _
        unfold b_X16_sha_135
        rw [hw, hwz, if_pos (by omega), e1]
        rfl
      · intro i hi
        show vI W' 161 i = shc (shb (pdb f n) k) (fun j => pdb f n (64 * k + j)) i
        rw [e2 i hi]
        have eB : schW (fun j => vI W 159 (64 * k + j)) = schW (fun j => pdb f n (64 * k + j)) := by
          have : ∀ t, t < 80 → True := fun _ _ => trivial
          funext t
          have key : ∀ t, schW (fun j => vI W 159 (64 * k + j)) t = schW (fun j => pdb f n (64 * k + j)) t := by
            intro t
            induction t using Nat.strongRecOn with
            | _ t ih =>
              by_cases ht : t < 16
              · rw [schW_lt ht, schW_lt ht]
                unfold wrd
                simp only
                rw [hv (4 * t) (by omega), hv (4 * t + 1) (by omega), hv (4 * t + 2) (by omega), hv (4 * t + 3) (by omega)]
              · rw [schW_ge ht, schW_ge ht, ih (t - 3) (by omega), ih (t - 8) (by omega), ih (t - 14) (by omega), ih (t - 16) (by omega)]
          exact key t
        unfold shc
        simp only
        rw [eB, h2 0 (by omega), h2 1 (by omega), h2 2 (by omega), h2 3 (by omega), h2 4 (by omega)]
      · intro i
        rw [ExV.vI e3 (by decide), h3]
      · exact h4.trans (e3.mono (fun a h => Or.inr h))) FU 0 (0, W4) (by omega) (by unfold FU; omega) ⟨rfl, fun i hi => hh4 i hi, hm4, hx4⟩
  obtain ⟨rfl, hh5, hm5, hx5⟩ := hI5
  simp only at hh5 hm5 hx5
  have hb5 : b_X16_sha_135 (sz : Int) ((64 * nbl n : Nat) : Int) W5 = xit (some W5) := by
    unfold b_X16_sha_135
    rw [hS, if_neg (by omega)]
  refine ⟨W5, ?_, hh5, hx5⟩
  unfold f_X16_sha
  rw [hd, Option.bind_some, s2_e hwn (by omega), Option.bind_some, hsz]
  unfold l_X16_sha_27
  refine Eq.trans q2 ?_
  refine Eq.trans (lpN_end (b := fun s : Int × VV => b_X16_sha_27 (n : Int) (sz : Int) s.1 s.2) (s := ((sz : Int), W2)) hn2 hb2') ?_
  unfold j_X16_sha_45 l_X16_sha_53
  refine Eq.trans q3 ?_
  refine Eq.trans (lpN_end (b := fun s : Int × VV => b_X16_sha_53 (sz : Int) (8 * (n : Int)) s.1 s.2) (s := (((4 : Nat) : Int), W3)) hn3 hb3) ?_
  unfold j_X16_sha_87
  rw [s2_e (j := 0) rfl (by decide), Option.bind_some, s2_e (j := 1) rfl (by decide), Option.bind_some, s2_e (j := 2) rfl (by decide), Option.bind_some, s2_e (j := 3) rfl (by decide), Option.bind_some, s2_e (j := 4) rfl (by decide), Option.bind_some]
  unfold l_X16_sha_135
  refine Eq.trans q5 ?_
  exact lpN_end (b := fun s : Int × VV => b_X16_sha_135 (sz : Int) s.1 s.2) (s := (((64 * nbl n : Nat) : Int), W5)) hn5 hb5
