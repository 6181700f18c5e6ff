/-! the class's filters -/
theorem rB_rU {M : MM} {a j : Nat} : rB M a j = sx8 (rU M a j) := by
  unfold rB rU
  rw [sx8_bmod, sx8_bmod]
  exact (Int.emod_bmod (M.1 a j) 256).symm
theorem bor_sx : ∀ x, x < 256 → ∀ n, n < 8 → sx8 (bor (sx8 ((x : Nat) : Int)) (sx8 (bshl 1 ((n : Nat) : Int)))) % 256 = ((x ||| 2 ^ n : Nat) : Int) := by decide +kernel
theorem tst_sx : ∀ x, x < 256 → ∀ n, n < 8 → band (bshr (sx8 ((x : Nat) : Int)) ((n : Nat) : Int)) 1 = if x.testBit n = true then 1 else 0 := by decide +kernel
theorem sx_em (x : Int) : sx8 x % 256 = x % 256 := by rw [sx8_bmod]; exact Int.bmod_emod
def FltS (M : MM) (f : Nat) : Prop := (kd M f).1 = 10 ∧ rR M f 0 = ((f + 1 : Nat) : Int) ∧ kd M (f + 1) = (81, 290) ∧ rR M f 3 = ((24 : Nat) : Int) ∧ rR M f 4 = ((f + 2 : Nat) : Int) ∧ kd M (f + 2) = (97, 2) ∧ rR M f 5 = ((f + 3 : Nat) : Int) ∧ isK M (f + 3)
def FltC (M : MM) (f h : Nat) (bs : List Int) : Prop := FltS M f ∧ rI M f 1 = (bs.length : Int) ∧ rI M f 2 = (h : Int) ∧ okB bs ∧ ∀ i, i < bs.length → rU M (f + 1) i = bs.getD i 0
def SumC (M : MM) (f : Nat) (o d : Int) : Prop := rI M (f + 4) 0 = sha1 (fun i => if i = 0 then o else d) 2 0 ∧ rI M (f + 4) 1 = sha1 (fun i => if i = 0 then o else d) 2 1
section CFLT
variable {M M1 : MM} {f h n k m p : Nat} {bs l : List Int} {o d : Int} {A : Nat → Prop}
theorem FltS.ex (hx : Ex A M M1) (hs : FltS M f) : FltS M1 f := by
  obtain ⟨a1, a2, a3, a4, a5, a6, a7, a8⟩ := hs
  exact ⟨by rw [hx.kd]; exact a1, by rw [hx.rR]; exact a2, by rw [hx.kd]; exact a3, by rw [hx.rR]; exact a4, by rw [hx.rR]; exact a5, by rw [hx.kd]; exact a6, by rw [hx.rR]; exact a7, a8.ex hx⟩
theorem FltC.ex (hx : Ex A M M1) (h1 : ¬ A f) (h2 : ¬ A (f + 1)) (hs : FltC M f h bs) : FltC M1 f h bs := by
  obtain ⟨a1, a2, a3, a4, a5⟩ := hs
  exact ⟨a1.ex hx, by rw [hx.rI h1]; exact a2, by rw [hx.rI h1]; exact a3, a4, fun i hi => by rw [hx.rU h2]; exact a5 i hi⟩
theorem flt_sha (hs : FltS M f) (hh : isSha M) : f ≠ 25 ∧ f ≠ 26 ∧ f ≠ 27 ∧ f + 1 ≠ 25 ∧ f + 1 ≠ 26 ∧ f + 1 ≠ 27 ∧ f + 2 ≠ 25 ∧ f + 2 ≠ 26 ∧ f + 2 ≠ 27 ∧ f + 4 ≠ 25 ∧ f + 4 ≠ 26 ∧ f + 4 ≠ 27 := by
  obtain ⟨a1, a2, a3, a4, a5, a6, a7, a8, a9, a10⟩ := hs
  obtain ⟨-, -, -, -, b5, b6, b7⟩ := hh
  refine ⟨?_, ?_, ?_, ?_, ?_, ?_, ?_, ?_, ?_, ?_, ?_, ?_⟩ <;> intro q
  · rw [q, b5] at a1; cases a1
  · rw [q, b6] at a1; cases a1
  · rw [q, b7] at a1; cases a1
  · rw [q, b5] at a3; cases a3
  · rw [q, b6] at a3; cases a3
  · rw [q, b7] at a3; cases a3
  · rw [q, b5] at a6; cases a6
  · rw [q, b6] at a6; cases a6
  · rw [q, b7] at a6; cases a6
  · rw [show f + 3 + 1 = f + 4 from rfl, q, b5] at a10; cases a10
  · rw [show f + 3 + 1 = f + 4 from rfl, q, b6] at a10; cases a10
  · rw [show f + 3 + 1 = f + 4 from rfl, q, b7] at a10; cases a10
theorem c_fhash (hs : FltS M f) (hh : isSha M) (ho : 0 ≤ o ∧ o < 256) (hd : 0 ≤ d ∧ d < 256) : ∃ M', f_X10_hash (f : Int) o d M = some M' ∧ SumC M' f o d ∧ Ex (fun q => q = 25 ∨ q = 26 ∨ q = 27 ∨ q = f + 2 ∨ q = f + 4) M M' := by
  obtain ⟨a1, a2, a3, a4, a5, a6, a7, a8⟩ := id hs
  have e0 : (0 : Int) = ((0 : Nat) : Int) := rfl
  have e1 : (1 : Int) = ((1 : Nat) : Int) := rfl
  obtain ⟨W, hW⟩ : ∃ W, W = sI (sI M (f + 2) 0 (sx8 o)) (f + 2) 1 (sx8 d) := ⟨_, rfl⟩
  have t1 : Ex (fun q => q = 25 ∨ q = 26 ∨ q = 27 ∨ q = f + 2 ∨ q = f + 4) M (sI M (f + 2) 0 (sx8 o)) := Ex.st (Or.inr (Or.inr (Or.inr (Or.inl rfl))))
  have xW : Ex (fun q => q = 25 ∨ q = 26 ∨ q = 27 ∨ q = f + 2 ∨ q = f + 4) M W := by rw [hW]; exact t1.trans (Ex.st (Or.inr (Or.inr (Or.inr (Or.inl rfl)))))
  have kW : kd W (f + 2) = (97, 2) := by rw [xW.kd]; exact a6
  obtain ⟨M', b1, b2, b3⟩ := e_X8_of (hh.ex xW) (x := f + 2) (n := 2) (b := f + 3) kW (by decide) (by decide) (by have := flt_sha hs hh; omega) (by decide) (by decide) (a8.ex xW)
  have sh : ∀ i, i < 5 → rI M' (f + 4) i = sha1 (fun i => if i = 0 then o else d) 2 i := fun i hi => by
    rw [show f + 4 = f + 3 + 1 from rfl, b2 i hi]
    have := sha1_congr (n := 2) (f := fun i => rU W (f + 2) i) (f' := fun i => if i = 0 then o else d) (by
      intro j hj
      have : j = 0 ∨ j = 1 := by omega
      rcases this with rfl | rfl
      · show rU W (f + 2) 0 = o
        rw [hW, rU_sI, if_neg (by omega), rU_sI, if_pos ⟨rfl, rfl⟩, sx_em]; omega
      · show rU W (f + 2) 1 = d
        rw [hW, rU_sI, if_pos ⟨rfl, rfl⟩, sx_em]; omega)
    rw [this]
  refine ⟨M', ?_, ⟨sh 0 (by decide), sh 1 (by decide)⟩, xW.trans (b3.mono (fun q z => by rcases z with z | z | z | z; exact Or.inl z; exact Or.inr (Or.inl z); exact Or.inr (Or.inr (Or.inl z)); exact Or.inr (Or.inr (Or.inr (Or.inr z)))))⟩
  unfold f_X10_hash
  rw [gfr_e a1, a5, Option.bind_some, sab_e a6 (by decide) (by decide) (j := 0) (by decide) (by decide), Option.bind_some, gfr_e (show (kd (sI M (f + 2) 0 (sx8 o)) f).1 = 10 from a1), rR_sI, a5, Option.bind_some, sab_e (show kd (sI M (f + 2) 0 (sx8 o)) (f + 2) = (97, 2) from a6) (by decide) (by decide) (j := 1) (by decide) (by decide), Option.bind_some, ← hW, gfr_e (by rw [xW.kd]; exact a1), xW.rR, a4, Option.bind_some, gfr_e (by rw [xW.kd]; exact a1), xW.rR, a5, Option.bind_some, gfr_e (by rw [xW.kd]; exact a1), xW.rR, a7, Option.bind_some, ck_e (by rw [xW.kd]; exact hh.1), show f_X8_of ((24 : Nat) : Int) ((f + 2 : Nat) : Int) 2 ((f + 3 : Nat) : Int) W = _ from b1, Option.bind_some]
theorem c_fbit (hf : FltC M f h bs) (hs : SumC M f o d) (hi : k ≤ 8) (hm : 0 < bs.length) : f_X10_bit (f : Int) (k : Int) M = some ((bitF o d bs.length k : Nat) : Int) := by
  obtain ⟨⟨a1, a2, a3, a4, a5, a6, a7, a8⟩, b1, b2, b3, b4⟩ := hf
  have q0 := hAB_lt (o := o) (d := d) (i := 0)
  have q1 := hAB_lt (o := o) (d := d) (i := 1)
  have hmul : k * hAB o d 1 ≤ 8 * hAB o d 1 := Nat.mul_le_mul_right _ hi
  have l3 := b3.1
  have k4 : kd M (f + 3 + 1) = (64, 5) := a8.2.2
  have s0 : lnd (w32 (rI M (f + 3 + 1) 0)) 4294967295 = (hAB o d 0 : Int) := by rw [w32_rI, lnd_e, show rI M (f + 3 + 1) 0 = _ from hs.1]; rfl
  have s1 : lnd (w32 (rI M (f + 3 + 1) 1)) 4294967295 = (hAB o d 1 : Int) := by rw [w32_rI, lnd_e, show rI M (f + 3 + 1) 1 = _ from hs.2]; rfl
  unfold f_X10_bit
  rw [gfr_e a1, a7, Option.bind_some, gfr_e a8.1, a8.2.1, Option.bind_some, lai_e k4 (by decide) (by decide) (j := 0) (by decide) (by decide), Option.bind_some, Option.bind_some, gfr_e a8.1, a8.2.1, Option.bind_some, lai_e k4 (by decide) (by decide) (j := 1) (by decide) (by decide), Option.bind_some, gfi_e a1, b1, Option.bind_some, s0, s1, w32_nn (by omega), w32_nn (by omega), rml_e (p := hAB o d 0 + k * hAB o d 1) (q := 8 * bs.length) (by rw [Int.natCast_add, Int.natCast_mul]) (by omega) (by omega) (by omega) (by omega), Option.bind_some]
  have := bitF_lt (o := o) (d := d) (i := k) hm
  rw [lcv_e (by unfold bitF at this; omega)]
  rfl
theorem c_fadd (hf : FltC M f h bs) (hh : isSha M) (h8 : h ≤ 8) (hm : 0 < bs.length) (ho : 0 ≤ o ∧ o < 256) (hd : 0 ≤ d ∧ d < 256) : ∃ M', f_X10_add (f : Int) o d M = some M' ∧ FltC M' f h (addF bs.length h bs o d) ∧ Ex (fun q => q = 25 ∨ q = 26 ∨ q = 27 ∨ q = f + 1 ∨ q = f + 2 ∨ q = f + 4) M M' := by
  obtain ⟨M1, a1, a2, a3⟩ := c_fhash hf.1 hh ho hd
  have ns := flt_sha hf.1 hh
  have hf1 : FltC M1 f h bs := hf.ex a3 (by omega) (by omega)
  obtain ⟨⟨z, U⟩, n2, hn2, ⟨rfl, g1, g2⟩, q2⟩ := lp_inv (b := fun s : Int × MM => b_X10_add_8 (f : Int) s.1 s.2) (fun j s => s.1 = (j : Int) ∧ FltC s.2 f h (addF bs.length j bs o d) ∧ Ex (fun q => q = f + 1) M1 s.2) h
    (by
      rintro j ⟨z, U⟩ hj ⟨rfl, g1, g2⟩
      dsimp only at g1 g2 ⊢
      have hl := (addF_ok (m := bs.length) (o := o) (d := d) hf.2.2.2.1 j).2
      have sU : SumC U f o d := ⟨by rw [g2.rI (by omega)]; exact a2.1, by rw [g2.rI (by omega)]; exact a2.2⟩
      rw [addF_succ]
      generalize hB : addF bs.length j bs o d = B at g1 hl
      have vb := c_fbit g1 sU (k := j) (by omega) (by omega)
      obtain ⟨⟨c1, c2, c3, c4, c5, c6, c7, c8⟩, b1, b2, b3, b4⟩ := id g1
      have hbl := bitF_lt (o := o) (d := d) (i := j) hm
      rw [hl] at vb
      generalize hJ : bitF o d bs.length j = J at vb hbl
      have l3 := b3.1
      have gb := okB_get (j := J / 8) b3
      have hv : rU U (f + 1) (J / 8) = (((B.getD (J / 8) 0).toNat : Nat) : Int) := by rw [b4 _ (by omega)]; omega
      have bo := bor_sx (B.getD (J / 8) 0).toNat (by omega) (J % 8) (Nat.mod_lt _ (by decide))
      have ol := or_lt (B.getD (J / 8) 0).toNat (by omega) (J % 8) (Nat.mod_lt _ (by decide))
      obtain ⟨v, hvd⟩ : ∃ v, v = sx8 (bor (rB U (f + 1) (J / 8)) (sx8 (bshl 1 ((J % 8 : Nat) : Int)))) := ⟨_, rfl⟩
      have hvm : v % 256 = (((B.getD (J / 8) 0).toNat ||| 2 ^ (J % 8) : Nat) : Int) := by rw [hvd, rB_rU, hv]; exact bo
      refine ⟨(((j + 1 : Nat) : Int), sI U (f + 1) (J / 8) v), ?_, rfl, ⟨⟨c1, c2, c3, c4, c5, c6, c7, c8⟩, ?_, ?_, okB_set b3, fun i hi => ?_⟩, g2.trans (Ex.st rfl)⟩
      · unfold b_X10_add_8
        rw [gfi_e c1, b2, Option.bind_some, w32_nn (by omega), w32_nn (by omega), if_pos (by omega), gfr_e c1, c2, Option.bind_some, ck_e c1, vb, Option.bind_some, dvi_e (p := J) (q := 8) (w32_nn (by omega)) (by decide) (by decide), Option.bind_some, lab_e c3 (by decide) (by decide) (j := J / 8) (w32_nn (by omega)) (by omega), Option.bind_some, ck_e c1, Option.bind_some, rmi_e (p := J) (q := 8) (w32_nn (by omega)) (by decide) (by decide), Option.bind_some, ← hvd, sab_e c3 (by decide) (by decide) (j := J / 8) (w32_nn (by omega)) (by omega), Option.bind_some, cadd1]
        rfl
      · dsimp only
        rw [rI_ne (by omega), setB_len]; exact b1
      · dsimp only
        rw [rI_ne (by omega)]; exact b2
      · dsimp only
        rw [setB_len] at hi
        rw [setB_get (by omega), rU_sI]
        by_cases c : i = J / 8
        · rw [if_pos ⟨rfl, c⟩, if_pos c, hvm]
        · rw [if_neg (fun z => c z.2), if_neg c]; exact b4 i hi) FU 0 (0, M1) (by omega) (by unfold FU; omega) ⟨rfl, hf1, Ex.refl⟩
  dsimp only at g1 g2
  refine ⟨U, ?_, g1, (a3.mono (fun q z => by omega)).trans (g2.mono (fun q z => by omega))⟩
  unfold f_X10_add l_X10_add_8
  rw [ck_e hf.1.1, a1, Option.bind_some]
  refine q2.trans ?_
  refine lpN_end (b := fun s : Int × MM => b_X10_add_8 (f : Int) s.1 s.2) hn2 ?_
  dsimp only
  unfold b_X10_add_8
  rw [gfi_e g1.1.1, g1.2.2.1, Option.bind_some, if_neg (Int.lt_irrefl _)]
theorem c_fmay (hf : FltC M f h bs) (hh : isSha M) (h8 : h ≤ 8) (ho : 0 ≤ o ∧ o < 256) (hd : 0 ≤ d ∧ d < 256) : ∃ M', f_X10_mayHave (f : Int) o d M = some (b2i (mayF h bs o d), M') ∧ FltC M' f h bs ∧ Ex (fun q => q = 25 ∨ q = 26 ∨ q = 27 ∨ q = f + 2 ∨ q = f + 4) M M' := by
  have l3 := hf.2.2.2.1.1
  unfold f_X10_mayHave mayF
  rw [gfi_e hf.1.1, hf.2.1, Option.bind_some, w32_nn (by omega)]
  by_cases c0 : bs.length = 0
  · rw [if_pos (by omega)]
    refine ⟨M, ?_, hf, Ex.refl⟩
    rw [c0]; rfl
  · rw [if_neg (by omega), show (bs.length == 0) = false by simpa using c0, Bool.false_or]
    obtain ⟨M1, a1, a2, a3⟩ := c_fhash hf.1 hh ho hd
    have ns := flt_sha hf.1 hh
    have hf1 : FltC M1 f h bs := hf.ex a3 (by omega) (by omega)
    refine ⟨M1, ?_, hf1, a3⟩
    rw [ck_e hf.1.1, a1, Option.bind_some]
    obtain ⟨⟨c1, c2, c3, c4, c5, c6, c7, c8⟩, b1, b2, b3, b4⟩ := id hf1
    unfold l_X10_mayHave_17
    refine lp_inv2 (b := fun t : Int => b_X10_mayHave_17 (f : Int) t M1) (fun j t => t = (j : Int) ∧ ∀ i, i < j → tstB bs (bitF o d bs.length i) = true) (fun r => r = some (b2i ((List.range h).all (fun i => tstB bs (bitF o d bs.length i))), M1)) h ?_ ?_ FU 0 0 (by omega) (by unfold FU; omega) ⟨rfl, fun i hi => by omega⟩
    · rintro j t hj ⟨rfl, hno⟩
      have vb := c_fbit hf1 a2 (k := j) (by omega) (by omega)
      have hbl := bitF_lt (o := o) (d := d) (i := j) (show 0 < bs.length by omega)
      have ht : tstB bs (bitF o d bs.length j) = tstB bs (bitF o d bs.length j) := rfl
      generalize hJ : bitF o d bs.length j = J at vb hbl ht
      have gb := okB_get (j := J / 8) b3
      have hv : rU M1 (f + 1) (J / 8) = (((bs.getD (J / 8) 0).toNat : Nat) : Int) := by rw [b4 _ (by omega)]; omega
      have ts := tst_sx (bs.getD (J / 8) 0).toNat (by omega) (J % 8) (Nat.mod_lt _ (by decide))
      rw [← hv, ← rB_rU] at ts
      have eb : b_X10_mayHave_17 (f : Int) ((j : Nat) : Int) M1 = if tstB bs J = true then cnt ((j + 1 : Nat) : Int) else xit (some (0, M1)) := by
        unfold b_X10_mayHave_17
        rw [gfi_e c1, b2, Option.bind_some, w32_nn (by omega), w32_nn (by omega), if_pos (by omega), gfr_e c1, c2, Option.bind_some, ck_e c1, vb, Option.bind_some, dvi_e (p := J) (q := 8) (w32_nn (by omega)) (by decide) (by decide), Option.bind_some, lab_e c3 (by decide) (by decide) (j := J / 8) (w32_nn (by omega)) (by omega), Option.bind_some, ck_e c1, Option.bind_some, rmi_e (p := J) (q := 8) (w32_nn (by omega)) (by decide) (by decide), Option.bind_some, ts, cadd1]
        unfold tstB
        cases (bs.getD (J / 8) 0).toNat.testBit (J % 8)
        · rfl
        · rfl
      rw [eb]
      by_cases c : tstB bs J = true
      · rw [if_pos c]
        refine Or.inl ⟨_, rfl, rfl, fun i hi => ?_⟩
        by_cases e : i = j
        · rw [e, hJ]; exact c
        · exact hno i (by omega)
      · rw [if_neg c]
        refine Or.inr ⟨_, rfl, ?_⟩
        have : (List.range h).all (fun i => tstB bs (bitF o d bs.length i)) = false := by
          rw [← Bool.not_eq_true, List.all_eq_true]
          intro q
          exact c (hJ ▸ q j (List.mem_range.mpr hj))
        rw [this]; rfl
    · rintro t ⟨rfl, hno⟩
      refine ⟨some (1, M1), ?_, ?_⟩
      · unfold b_X10_mayHave_17
        rw [gfi_e c1, b2, Option.bind_some, if_neg (Int.lt_irrefl _)]
      · rw [List.all_eq_true.mpr (fun i hi => hno i (List.mem_range.mp hi))]; rfl
theorem c_fbegin (hs : FltS M f) (hn : n ≤ 200) (h8 : h ≤ 8) : ∃ M', f_X10_begin (f : Int) (n : Int) (h : Int) M = some M' ∧ FltC M' f h (List.replicate (fltL n h) 0) ∧ Ex (fun q => q = f ∨ q = f + 1) M M' := by
  have hle := fltL_le hn h8
  have hmul : n * h ≤ 200 * 8 := Nat.mul_le_mul hn h8
  obtain ⟨W, hW⟩ : ∃ W, W = sI (sI M f 2 (h : Int)) f 1 ((fltL n h : Nat) : Int) := ⟨_, rfl⟩
  have t1 : Ex (fun q => q = f ∨ q = f + 1) M (sI M f 2 (h : Int)) := Ex.st (Or.inl rfl)
  have xW : Ex (fun q => q = f ∨ q = f + 1) M W := by rw [hW]; exact t1.trans (Ex.st (Or.inl rfl))
  have sW := hs.ex xW
  have w1 : rI W f 1 = ((fltL n h : Nat) : Int) := by rw [hW, rI_eq rfl, w32_nn (by omega)]
  have w2 : rI W f 2 = (h : Int) := by rw [hW, rI_ne (by omega), rI_eq rfl, w32_nn (by omega)]
  obtain ⟨⟨z, U⟩, n2, hn2, ⟨rfl, g1, g2⟩, q2⟩ := lp_inv (b := fun s : Int × MM => b_X10_begin_26 (f : Int) s.1 s.2) (fun j s => s.1 = (j : Int) ∧ (∀ i, i < j → rU s.2 (f + 1) i = 0) ∧ Ex (fun q => q = f + 1) W s.2) (fltL n h)
    (by
      rintro j ⟨z, U⟩ hj ⟨rfl, g1, g2⟩
      dsimp only at g1 g2 ⊢
      refine ⟨(((j + 1 : Nat) : Int), sI U (f + 1) j 0), ?_, rfl, fun i hi => ?_, g2.trans (Ex.st rfl)⟩
      · unfold b_X10_begin_26
        rw [gfi_e (by rw [g2.kd]; exact sW.1), g2.rI (by omega), w1, Option.bind_some, w32_nn (by omega), w32_nn (by omega), if_pos (by omega), gfr_e (by rw [g2.kd]; exact sW.1), g2.rR, sW.2.1, Option.bind_some, sab_e (show kd U (f + 1) = (81, 290) by rw [g2.kd]; exact sW.2.2.1) (by decide) (by decide) (j := j) (w32_nn (by omega)) (by omega), Option.bind_some, cadd1]
        rfl
      · dsimp only
        rw [rU_sI]
        by_cases c : i = j
        · rw [if_pos ⟨rfl, c⟩]; rfl
        · rw [if_neg (fun z => c z.2)]; exact g1 i (by omega)) FU 0 (0, W) (by omega) (by unfold FU; omega) ⟨rfl, fun i hi => by omega, Ex.refl⟩
  dsimp only at g1 g2
  refine ⟨U, ?_, ⟨sW.ex g2, ?_, ?_, ⟨by rw [List.length_replicate]; exact hle, fun b hb => ?_⟩, fun i hi => ?_⟩, xW.trans (g2.mono (fun q z => Or.inr z))⟩
  · unfold f_X10_begin l_X10_begin_26
    rw [pfi_e hs.1, Option.bind_some, dvi_e (p := n * h * 1443 + 7999) (q := 8000) (by rw [show (n : Int) * (h : Int) * 1443 + 7999 = ((n * h * 1443 + 7999 : Nat) : Int) by rw [Int.natCast_add, Int.natCast_mul, Int.natCast_mul]; rfl]; exact w32_nn (by omega)) (by decide) (by decide), Option.bind_some, pfi_e (by rw [kd_sI]; exact hs.1), Option.bind_some, show (n * h * 1443 + 7999) / 8000 = fltL n h from rfl, ← hW]
    refine q2.trans ?_
    refine lpN_end (b := fun s : Int × MM => b_X10_begin_26 (f : Int) s.1 s.2) hn2 ?_
    dsimp only
    unfold b_X10_begin_26
    rw [gfi_e (by rw [g2.kd]; exact sW.1), g2.rI (by omega), w1, Option.bind_some, if_neg (Int.lt_irrefl _)]
  · rw [List.length_replicate, g2.rI (by omega)]; exact w1
  · rw [g2.rI (by omega)]; exact w2
  · have : b = 0 := by simp at hb; exact hb.2
    omega
  · rw [List.length_replicate] at hi
    rw [g1 i hi]
    simp [List.getD_eq_getElem?_getD, List.getElem?_replicate, hi]
theorem c_fread (hs : FltS M f) (hp : PkC M p l) (hm : (l.getD (k + 1) 0 * 256 + l.getD (k + 2) 0).toNat = m) (hm2 : m ≤ 290) (hl : k + 3 + m ≤ l.length) : ∃ M', f_X10_read (f : Int) (p : Int) (k : Int) M = some M' ∧ FltC M' f (l.getD k 0).toNat (rdF l k) ∧ Ex (fun q => q = f ∨ q = f + 1) M M' := by
  have hl4 := hp.2.2.1
  have b0 := pk_b hp (q := k) (by omega)
  have b1 := pk_b hp (q := k + 1) (by omega)
  have b2 := pk_b hp (q := k + 2) (by omega)
  have nep : p ≠ f ∧ p ≠ f + 1 ∧ p + 1 ≠ f ∧ p + 1 ≠ f + 1 := by
    refine ⟨fun q => ?_, fun q => ?_, fun q => ?_, fun q => ?_⟩
    · have := hp.1.1; rw [q, hs.1] at this; cases this
    · have := hp.1.1; rw [q, hs.2.2.1] at this; cases this
    · have := hs.1; rw [← q, hp.1.2.2] at this; cases this
    · have := hs.2.2.1; rw [← q, hp.1.2.2] at this; cases this
  obtain ⟨W1, hW1⟩ : ∃ W1, W1 = sI M f 2 (l.getD k 0) := ⟨_, rfl⟩
  obtain ⟨W, hW⟩ : ∃ W, W = sI W1 f 1 (m : Int) := ⟨_, rfl⟩
  have xW1 : Ex (fun q => q = f ∨ q = f + 1) M W1 := by rw [hW1]; exact Ex.st (Or.inl rfl)
  have xW : Ex (fun q => q = f ∨ q = f + 1) M W := by rw [hW]; exact xW1.trans (Ex.st (Or.inl rfl))
  have pW1 : PkC W1 p l := hp.ex xW1 (by omega) (by omega)
  have sW := hs.ex xW
  have w1 : rI W f 1 = (m : Int) := by rw [hW, rI_eq rfl, w32_nn (by omega)]
  have w2 : rI W f 2 = (((l.getD k 0).toNat : Nat) : Int) := by rw [hW, rI_ne (by omega), hW1, rI_eq rfl, w32_id (by omega) (by omega)]; omega
  obtain ⟨⟨z, U⟩, n2, hn2, ⟨rfl, g1, g2⟩, q2⟩ := lp_inv (b := fun s : Int × MM => b_X10_read_24 (f : Int) (p : Int) (k : Int) s.1 s.2) (fun j s => s.1 = (j : Int) ∧ (∀ i, i < j → rU s.2 (f + 1) i = l.getD (k + 3 + i) 0) ∧ Ex (fun q => q = f + 1) W s.2) m
    (by
      rintro j ⟨z, U⟩ hj ⟨rfl, g1, g2⟩
      dsimp only at g1 g2 ⊢
      have pU : PkC U p l := (hp.ex xW (by omega) (by omega)).ex g2 (by omega) (by omega)
      have bb := pk_b hp (q := k + 3 + j) (by omega)
      refine ⟨(((j + 1 : Nat) : Int), sI U (f + 1) j (sx8 (l.getD (k + 3 + j) 0))), ?_, rfl, fun i hi => ?_, g2.trans (Ex.st rfl)⟩
      · unfold b_X10_read_24
        rw [gfi_e (by rw [g2.kd]; exact sW.1), g2.rI (by omega), w1, Option.bind_some, w32_nn (by omega), w32_nn (by omega), if_pos (by omega), gfr_e (by rw [g2.kd]; exact sW.1), g2.rR, sW.2.1, Option.bind_some, ck_e pU.1.1, pk_get1 pU (q := k + 3 + j) (by omega) (by omega), Option.bind_some, sab_e (show kd U (f + 1) = (81, 290) by rw [g2.kd]; exact sW.2.2.1) (by decide) (by decide) (j := j) (w32_nn (by omega)) (by omega), Option.bind_some, cadd1]
        rfl
      · dsimp only
        rw [rU_sI]
        by_cases c : i = j
        · rw [if_pos ⟨rfl, c⟩, c, sx_em]; omega
        · rw [if_neg (fun z => c z.2)]; exact g1 i (by omega)) FU 0 (0, W) (by omega) (by unfold FU; omega) ⟨rfl, fun i hi => by omega, Ex.refl⟩
  dsimp only at g1 g2
  have lenR : (rdF l k).length = m := by
    unfold rdF
    rw [hm, List.length_take, List.length_drop]; omega
  have getR : ∀ i, i < m → (rdF l k).getD i 0 = l.getD (k + 3 + i) 0 := fun i hi => by
    unfold rdF
    rw [hm, List.getD_eq_getElem?_getD, List.getElem?_take_of_lt hi, List.getElem?_drop, List.getD_eq_getElem?_getD]
  refine ⟨U, ?_, ⟨sW.ex g2, ?_, ?_, ⟨by omega, fun b hb => ?_⟩, fun i hi => ?_⟩, xW.trans (g2.mono (fun q z => Or.inr z))⟩
  · unfold f_X10_read l_X10_read_24
    rw [ck_e hp.1.1, pk_get1 hp (q := k) rfl (by omega), Option.bind_some, pfi_e hs.1, Option.bind_some, ← hW1, ck_e pW1.1.1, pk_get2 pW1 (q := k + 1) (by omega) (by omega), Option.bind_some, pfi_e (by rw [xW1.kd]; exact hs.1), Option.bind_some, show l.getD (k + 1) 0 * 256 + l.getD (k + 1 + 1) 0 = (m : Int) by rw [← hm, show k + 1 + 1 = k + 2 from rfl]; omega, ← hW]
    refine q2.trans ?_
    refine lpN_end (b := fun s : Int × MM => b_X10_read_24 (f : Int) (p : Int) (k : Int) s.1 s.2) hn2 ?_
    dsimp only
    unfold b_X10_read_24
    rw [gfi_e (by rw [g2.kd]; exact sW.1), g2.rI (by omega), w1, Option.bind_some, if_neg (Int.lt_irrefl _)]
  · rw [lenR, g2.rI (by omega)]; exact w1
  · rw [g2.rI (by omega)]; exact w2
  · obtain ⟨i, hi, rfl⟩ := List.mem_iff_getElem.mp hb
    rw [← gd_get (d := 0), getR i (by omega)]
    exact pk_b hp (by omega)
  · rw [lenR] at hi
    rw [g1 i hi, getR i hi]
theorem be1' {v : Int} (hv : 0 ≤ v ∧ v < 256) : be v 1 = [v] := by
  have e := by_0 v
  rw [band255] at e
  show [bush v ((8 * 0 : Nat) : Int) % 256] = [v]
  rw [← e]
  congr 1
  omega
theorem be_sx {v : Int} (hv : 0 ≤ v ∧ v < 256) : be (sx8 v) 1 = [v] := by
  have e := by_0 (sx8 v)
  rw [band255, sx8_emod] at e
  show [bush (sx8 v) ((8 * 0 : Nat) : Int) % 256] = [v]
  rw [← e]
  congr 1
  omega
theorem c_fwrite (hf : FltC M f h bs) (hp : PkC M p l) (h8 : h ≤ 8) (hl : l.length + 3 + bs.length ≤ 460) : ∃ M', f_X10_write (f : Int) (p : Int) M = some M' ∧ PkC M' p (l ++ ((h : Int) :: be ((bs.length : Nat) : Int) 2) ++ bs) ∧ Ex (fun q => q = p ∨ q = p + 1) M M' := by
  obtain ⟨⟨c1, c2, c3, c4, c5, c6, c7, c8⟩, b1, b2, b3, b4⟩ := id hf
  have nep : p ≠ f ∧ p ≠ f + 1 ∧ p + 1 ≠ f ∧ p + 1 ≠ f + 1 := by
    refine ⟨fun q => ?_, fun q => ?_, fun q => ?_, fun q => ?_⟩
    · have := hp.1.1; rw [q, c1] at this; cases this
    · have := hp.1.1; rw [q, c3] at this; cases this
    · rw [← q, hp.1.2.2] at c1; cases c1
    · rw [← q, hp.1.2.2] at c3; cases c3
  obtain ⟨M1, p1, p2, p3⟩ := e_X4_put (v := (h : Int)) (n := 1) hp (by decide) (by omega)
  rw [be1' (by omega)] at p2
  obtain ⟨M2, r1, r2, r3⟩ := e_X4_put (v := ((bs.length : Nat) : Int)) (n := 2) p2 (by decide) (by rw [List.length_append]; simp; omega)
  have x2 : Ex (fun q => q = p ∨ q = p + 1) M M2 := p3.trans r3
  have f1 : FltC M1 f h bs := hf.ex p3 (by omega) (by omega)
  have f2 : FltC M2 f h bs := f1.ex r3 (by omega) (by omega)
  have l0 : (l ++ [(h : Int)] ++ be ((bs.length : Nat) : Int) 2).length = l.length + 3 := by rw [List.length_append, List.length_append, be_len]; rfl
  obtain ⟨⟨z, U⟩, n2, hn2, ⟨rfl, g1, g2⟩, q2⟩ := lp_inv (b := fun s : Int × MM => b_X10_write_20 (f : Int) (p : Int) s.1 s.2) (fun j s => s.1 = (j : Int) ∧ PkC s.2 p (l ++ [(h : Int)] ++ be ((bs.length : Nat) : Int) 2 ++ bs.take j) ∧ Ex (fun q => q = p ∨ q = p + 1) M2 s.2) bs.length
    (by
      rintro j ⟨z, U⟩ hj ⟨rfl, g1, g2⟩
      dsimp only at g1 g2 ⊢
      have fU : FltC U f h bs := f2.ex g2 (by omega) (by omega)
      have bb := okB_get (j := j) b3
      have l3 := b3.1
      obtain ⟨M3, s1, s2', s3⟩ := e_X4_put (v := rB U (f + 1) j) (n := 1) g1 (by decide) (by rw [List.length_append, l0, List.length_take]; omega)
      rw [rB_rU, fU.2.2.2.2 j hj, be_sx bb, List.append_assoc _ (bs.take j), ← take_s (d := 0) hj] at s2'
      refine ⟨(((j + 1 : Nat) : Int), M3), ?_, rfl, s2', g2.trans s3⟩
      unfold b_X10_write_20
      rw [gfi_e fU.1.1, fU.2.1, Option.bind_some, w32_nn (by omega), w32_nn (by omega), if_pos (by omega), gfr_e fU.1.1, fU.1.2.1, Option.bind_some, lab_e fU.1.2.2.1 (by decide) (by decide) (j := j) (w32_nn (by omega)) (by omega), Option.bind_some, ck_e g1.1.1, show f_X4_put (p : Int) (rB U (f + 1) j) 1 U = some M3 from s1, Option.bind_some, cadd1]
      rfl) FU 0 (0, M2) (by omega) (by unfold FU; have := b3.1; omega) ⟨rfl, by rw [List.take_zero, List.append_nil]; exact r2, Ex.refl⟩
  dsimp only at g1 g2
  rw [List.take_of_length_le (Nat.le_refl _)] at g1
  refine ⟨U, ?_, by rw [show l ++ ((h : Int) :: be ((bs.length : Nat) : Int) 2) = l ++ [(h : Int)] ++ be ((bs.length : Nat) : Int) 2 by simp]; exact g1, x2.trans g2⟩
  unfold f_X10_write l_X10_write_20
  rw [gfi_e c1, b2, Option.bind_some, ck_e hp.1.1, show f_X4_put (p : Int) (h : Int) 1 M = some M1 from p1, Option.bind_some, gfi_e f1.1.1, f1.2.1, Option.bind_some, ck_e p2.1.1, show f_X4_put (p : Int) ((bs.length : Nat) : Int) 2 M1 = some M2 from r1, Option.bind_some]
  refine q2.trans ?_
  refine lpN_end (b := fun s : Int × MM => b_X10_write_20 (f : Int) (p : Int) s.1 s.2) hn2 ?_
  dsimp only
  have fU : FltC U f h bs := f2.ex g2 (by omega) (by omega)
  unfold b_X10_write_20
  rw [gfi_e fU.1.1, fU.2.1, Option.bind_some, if_neg (Int.lt_irrefl _)]
end CFLT
