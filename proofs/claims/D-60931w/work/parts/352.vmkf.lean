section VMKF
variable {V W : VV} {o d : Int} {h m i j p : Nat} {bs : List Int}
/-- the bits of a posting come to the filter -/
theorem v_mkf97 {x1 : Int} {hs : Nat} (hf : FltV V hs bs) (hh : hs ≤ 8) (hm : 0 < bs.length) (h81 : V 156 81 = (hAB o d 0 : Int)) (h82 : V 156 82 = (hAB o d 1 : Int)) : ∃ V', l_X16_makeFilter_97 x1 0 V = j_X16_makeFilter_146 x1 V' ∧ FltV V' hs (addF bs.length hs bs o d) ∧ FrS (fun a _ => a = 220) V V' := by
  have hlen := hf.2.2.1.1
  have stp : ∀ k (s : Int × VV), k < hs → (s.1 = (k : Int) ∧ FltV s.2 hs (addF bs.length k bs o d) ∧ FrS (fun a _ => a = 220) V s.2) → ∃ s', b_X16_makeFilter_97 x1 s.1 s.2 = some (.inl s') ∧ (s'.1 = ((k + 1 : Nat) : Int) ∧ FltV s'.2 hs (addF bs.length (k + 1) bs o d) ∧ FrS (fun a _ => a = 220) V s'.2) := by
    rintro k ⟨z, U⟩ hk ⟨rfl, g1, g2⟩
    dsimp only at g1 g2 ⊢
    have hl := (addF_ok (m := bs.length) (o := o) (d := d) hf.2.2.1 k).2
    generalize hB : addF bs.length k bs o d = B at g1 hl
    obtain ⟨q1, q2, q3, q4⟩ := g1
    have u81 : U 156 81 = (hAB o d 0 : Int) := by rw [g2 156 81 (by decide)]; exact h81
    have u82 : U 156 82 = (hAB o d 1 : Int) := by rw [g2 156 82 (by decide)]; exact h82
    have hbl := bitF_lt (o := o) (d := d) (i := k) hm
    rw [hl] at q2
    rw [addF_succ, hB]
    generalize hJ : bitF o d bs.length k = J at hbl
    have vb := v_bit (V := U) (i := k) (m := bs.length) u81 u82 (by omega) hm (by omega)
    rw [hJ] at vb
    have hJ8 : J / 8 < bs.length := by omega
    have gb := okB_get (j := J / 8) q3
    have hv : vI U 220 (J / 8) = (((B.getD (J / 8) 0).toNat : Nat) : Int) := by rw [q4 _ (by omega)]; omega
    have bo := bor_bit (B.getD (J / 8) 0).toNat (by omega) (J % 8) (Nat.mod_lt _ (by decide))
    refine ⟨(((k : Nat) : Int) + 1, st2 U 220 (J / 8) (((B.getD (J / 8) 0).toNat ||| 2 ^ (J % 8) : Nat) : Int)), ?_, rfl, ⟨?_, ?_, okB_set q3, fun i hi => ?_⟩, g2.trans (FrS_st rfl)⟩
    · unfold b_X16_makeFilter_97
      rw [show w32 (U 156 79) = (hs : Int) from q1, show w32 (U 156 78) = (bs.length : Int) from q2, w32_nn (by omega), w32_nn (by omega), if_pos (by omega), vb, Option.bind_some, dvi_e (p := J) (q := 8) (w32_nn (by omega)) (by decide) (by decide), Option.bind_some, Option.bind_some, l2_n (by omega) (by decide), Option.bind_some, rmi_e (p := J) (q := 8) (w32_nn (by omega)) (by decide) (by decide), Option.bind_some, s2_n (by omega) (by decide), Option.bind_some, hv, bo]
      rfl
    · dsimp only
      rw [vI_ne (by omega)]; exact q1
    · dsimp only
      rw [vI_ne (by omega), setB_len, hl]; exact q2
    · dsimp only
      rw [setB_len] at hi
      rw [setB_get (by omega), vI_st2]
      have := or_lt (B.getD (J / 8) 0).toNat (by omega) (J % 8) (Nat.mod_lt _ (by decide))
      by_cases c : i = J / 8
      · rw [if_pos ⟨rfl, c⟩, if_pos c, w32_nn (by omega)]
      · rw [if_neg (fun z => c z.2), if_neg c]; exact q4 i hi
  obtain ⟨⟨z, V'⟩, n2, hn2, ⟨rfl, g1, g2⟩, q2⟩ := lp_inv (b := fun s : Int × VV => b_X16_makeFilter_97 x1 s.1 s.2) (fun k s => s.1 = (k : Int) ∧ FltV s.2 hs (addF bs.length k bs o d) ∧ FrS (fun a _ => a = 220) V s.2) hs stp FU 0 (0, V) (by omega) (by unfold FU; omega) ⟨rfl, hf, FrS.refl⟩
  dsimp only at g1 g2
  refine ⟨V', ?_, g1, g2⟩
  unfold l_X16_makeFilter_97
  refine q2.trans ?_
  refine lpN_end (b := fun s : Int × VV => b_X16_makeFilter_97 x1 s.1 s.2) hn2 ?_
  dsimp only
  unfold b_X16_makeFilter_97
  rw [show w32 (V' 156 79) = (hs : Int) from g1.1, if_neg (by omega)]
theorem fltL_le {n h : Nat} (hn : n ≤ 200) (hh : h ≤ 8) : fltL n h ≤ 290 := by
  have : n * h ≤ 200 * 8 := Nat.mul_le_mul hn hh
  unfold fltL
  omega
theorem fltL_pos {n h : Nat} (hn : 0 < n) (hh : 0 < h) : 0 < fltL n h := by
  have : 1 * 1 ≤ n * h := Nat.mul_le_mul hn hh
  unfold fltL
  omega
/-- the first k postings -/
def mkFk (h : Nat) (ps : List Post) (k : Nat) : List Int := (ps.take k).foldl (fun bs x => addF (fltL ps.length h) h bs x.2.1 x.2.2.1) (List.replicate (fltL ps.length h) 0)
theorem mkFk_ok {h : Nat} {ps : List Post} (hn : ps.length ≤ 200) (hh : h ≤ 8) : ∀ k, k ≤ ps.length → okB (mkFk h ps k) ∧ (mkFk h ps k).length = fltL ps.length h
  | 0, _ => by
    have := fltL_le hn hh
    refine ⟨⟨by simpa [mkFk] using this, fun b hb => ?_⟩, by simp [mkFk]⟩
    have : b = 0 := by simp [mkFk] at hb; exact hb.2
    omega
  | k + 1, hk => by
    have ih := mkFk_ok hn hh k (by omega)
    have e : mkFk h ps (k + 1) = addF (fltL ps.length h) h (mkFk h ps k) (ps.getD k post0).2.1 (ps.getD k post0).2.2.1 := by
      unfold mkFk
      rw [take_s (d := post0) (by omega), List.foldl_append]
      rfl
    rw [e]
    have := addF_ok (m := fltL ps.length h) (o := (ps.getD k post0).2.1) (d := (ps.getD k post0).2.2.1) ih.1 h
    exact ⟨this.1, by rw [this.2]; exact ih.2⟩
theorem mkFk_succ {h : Nat} {ps : List Post} {k : Nat} (hk : k < ps.length) : mkFk h ps (k + 1) = addF (fltL ps.length h) h (mkFk h ps k) (ps.getD k post0).2.1 (ps.getD k post0).2.2.1 := by
  unfold mkFk
  rw [take_s (d := post0) hk, List.foldl_append]
  rfl
theorem v_makeFilter {Ls : List Nat} {ps : List Post} {h : Nat} (h72 : vI V 156 72 = (Ls.length : Int)) (hA : ArrN V 216 Ls) (hl : Ls.length ≤ 200) (hsl : ∀ r, r ∈ Ls → r < 6400) (hps : Ls.map (gP V) = ps) (h9 : vI V 162 9 = (h : Int)) (hh : 1 ≤ h ∧ h ≤ 8) : ∃ V', f_X16_makeFilter V = some V' ∧ FltV V' h (mkF h ps) ∧ FrS PFl V V' := by
  have hpl : ps.length = Ls.length := by rw [← hps, List.length_map]
  have hmul : Ls.length * h ≤ 200 * 8 := Nat.mul_le_mul hl hh.2
  obtain ⟨m, hm⟩ : ∃ m, m = fltL ps.length h := ⟨_, rfl⟩
  have hm2 : m ≤ 290 := by rw [hm, hpl]; exact fltL_le hl hh.2
  let V2 := st2 (st2 V 156 79 (h : Int)) 156 78 (m : Int)
  have f2 : FrS PFl V V2 := (FrS_st (Or.inr (Or.inr (by decide)))).trans (FrS_st (Or.inr (Or.inr (by decide))))
  -- zeros
  obtain ⟨⟨z, V3⟩, n2, hn2, ⟨rfl, a1, a2⟩, q2⟩ := lp_inv (b := fun s : Int × VV => b_X16_makeFilter_38 s.1 s.2) (fun k s => s.1 = (k : Int) ∧ (∀ i, i < k → vI s.2 220 i = 0) ∧ FrS (fun a _ => a = 220) V2 s.2) m
    (by
      rintro k ⟨z, U⟩ hk ⟨rfl, g1, g2⟩
      dsimp only at g1 g2 ⊢
      have u78 : vI U 156 78 = (m : Int) := by
        rw [g2.vI (by decide)]
        show vI (st2 _ 156 78 _) 156 78 = _
        rw [vI_eq rfl, w32_nn (by omega)]
      refine ⟨(((k : Nat) : Int) + 1, st2 U 220 k 0), ?_, rfl, fun i hi => ?_, g2.trans (FrS_st rfl)⟩
      · unfold b_X16_makeFilter_38
        rw [show w32 (U 156 78) = (m : Int) from u78, w32_nn (by omega), w32_nn (by omega), if_pos (by omega), s2_n (by omega) (by decide)]
        rfl
      · dsimp only
        rw [vI_st2]
        by_cases c : i = k
        · rw [if_pos ⟨rfl, c⟩]; rfl
        · rw [if_neg (fun z => c z.2)]; exact g1 i (by omega)) FU 0 (0, V2) (by omega) (by unfold FU; omega) ⟨rfl, fun i hi => by omega, FrS.refl⟩
  dsimp only at a1 a2
  have v78 : vI V3 156 78 = (m : Int) := by
    rw [a2.vI (by decide)]
    show vI (st2 _ 156 78 _) 156 78 = _
    rw [vI_eq rfl, w32_nn (by omega)]
  have v79 : vI V3 156 79 = (h : Int) := by
    rw [a2.vI (by decide)]
    show vI (st2 (st2 _ 156 79 _) 156 78 _) 156 79 = _
    rw [vI_ne (by decide), vI_eq rfl, w32_nn (by omega)]
  have f3 : FrS PFl V V3 := f2.trans (a2.mono (fun a i q => Or.inr (Or.inl q)))
  have okk := fun k (hk : k ≤ ps.length) => mkFk_ok (h := h) (ps := ps) (by omega) hh.2 k hk
  have F3 : FltV V3 h (mkFk h ps 0) := by
    have o0 := okk 0 (by omega)
    refine ⟨v79, by rw [o0.2, ← hm]; exact v78, o0.1, fun i hi => ?_⟩
    rw [o0.2, ← hm] at hi
    rw [a1 i hi]
    have : (mkFk h ps 0).getD i 0 = 0 := by
      unfold mkFk
      simp only [List.take_zero, List.foldl_nil]
      rw [List.getD_eq_getElem?_getD, List.getElem?_replicate]
      split <;> rfl
    rw [this]
  -- postings
  obtain ⟨⟨z, V4⟩, n3, hn3, ⟨rfl, c1, c2⟩, q3⟩ := lp_inv (b := fun s : Int × VV => b_X16_makeFilter_61 s.1 s.2) (fun k s => s.1 = (k : Int) ∧ FltV s.2 h (mkFk h ps k) ∧ FrS PFl V s.2) ps.length
    (by
      rintro k ⟨z, U⟩ hk ⟨rfl, g1, g2⟩
      dsimp only at g1 g2 ⊢
      have u72 : vI U 156 72 = (Ls.length : Int) := by rw [g2.vI (by unfold PFl; omega)]; exact h72
      have u216 : vI U 216 k = ((Ls.getD k 0 : Nat) : Int) := by rw [g2.vI (by unfold PFl; omega)]; exact hA k (by omega)
      have hr := hsl _ (getD_mem (d := 0) (show k < Ls.length by omega))
      have hgp : ps.getD k post0 = gP V (Ls.getD k 0) := by
        rw [← hps]
        have e1 : Ls.getD k 0 = Ls[k]'(by omega) := by grind
        rw [e1]
        grind
      generalize Ls.getD k 0 = X at u216 hr hgp
      have u212 : vI U 212 X = (ps.getD k post0).2.1 := by rw [g2.vI (by unfold PFl; omega), hgp]; rfl
      have u213 : vI U 213 X = (ps.getD k post0).2.2.1 := by rw [g2.vI (by unfold PFl; omega), hgp]; rfl
      obtain ⟨U1, t1, t2, t3, t4⟩ := v_hashPosting (V := U) (o := vI U 212 X) (d := vI U 213 X) w32_vI w32_vI
      have F1 : FltV U1 h (mkFk h ps k) := FltV_fr g1 t4 (by unfold PH; omega) (by unfold PH; omega) (fun i => by unfold PH; omega)
      have ok := okk k (by omega)
      have hpos : 0 < (mkFk h ps k).length := by rw [ok.2]; exact fltL_pos (by omega) (by omega)
      obtain ⟨U2, w1, w2, w3⟩ := v_mkf97 (x1 := (k : Int)) F1 hh.2 hpos t2 t3
      rw [ok.2, u212, u213, ← mkFk_succ hk] at w2
      refine ⟨(((k : Nat) : Int) + 1, U2), ?_, rfl, w2, (g2.trans (t4.mono PH_PFl)).trans (w3.mono (fun a i q => Or.inr (Or.inl q)))⟩
      unfold b_X16_makeFilter_61
      rw [show w32 (U 156 72) = (Ls.length : Int) from u72, w32_nn (by omega), w32_nn (by omega), if_pos (by omega), l2_n (by omega) (by decide), Option.bind_some, u216, l2_n (by omega) (by decide), Option.bind_some, Option.bind_some, l2_n (by omega) (by decide), Option.bind_some, t1, Option.bind_some, w1]
      rfl) FU 0 (0, V3) (by omega) (by unfold FU; omega) ⟨rfl, F3, f3⟩
  dsimp only at c1 c2
  refine ⟨V4, ?_, ?_, c2⟩
  · unfold f_X16_makeFilter
    rw [l2_e (j := 9) (by decide) (by decide), Option.bind_some, p2_e, Option.bind_some, h9]
    have r72 : vI (st2 V 156 79 (h : Int)) 156 72 = (Ls.length : Int) := by rw [vI_ne (by decide)]; exact h72
    have r79 : vI (st2 V 156 79 (h : Int)) 156 79 = (h : Int) := by rw [vI_eq rfl, w32_nn (by omega)]
    rw [show w32 (st2 V 156 79 (h : Int) 156 72) = _ from r72, show w32 (st2 V 156 79 (h : Int) 156 79) = _ from r79, dvi_e (p := Ls.length * h * 1443 + 7999) (q := 8000) (by rw [w32_id] <;> · rw [← Int.natCast_mul]; omega) (by decide) (by decide), Option.bind_some, p2_e, Option.bind_some]
    have em : (Ls.length * h * 1443 + 7999) / 8000 = m := by rw [hm, hpl]; rfl
    rw [em]
    unfold l_X16_makeFilter_38
    refine q2.trans ?_
    refine lpN_end (b := fun s : Int × VV => b_X16_makeFilter_38 s.1 s.2) hn2 ?_
    dsimp only
    unfold b_X16_makeFilter_38 j_X16_makeFilter_59 l_X16_makeFilter_61
    rw [show w32 (V3 156 78) = (m : Int) from v78, if_neg (by omega), show lpN (fun s : Int × VV => b_X16_makeFilter_61 s.1 s.2) FU (0, V3) = _ from q3]
    congr 1
    refine lpN_end (b := fun s : Int × VV => b_X16_makeFilter_61 s.1 s.2) hn3 ?_
    dsimp only
    unfold b_X16_makeFilter_61
    have u72 : vI V4 156 72 = (Ls.length : Int) := by rw [c2.vI (by unfold PFl; omega)]; exact h72
    rw [show w32 (V4 156 72) = (Ls.length : Int) from u72, hpl, if_neg (by omega)]
  · have : mkFk h ps ps.length = mkF h ps := by unfold mkFk mkF; rw [List.take_length]
    rw [← this]; exact c1
/-- whether a posting matches -/
theorem v_matches {X : Nat} {hs : Nat} (hX : X < 6400) (hf : FltV V hs bs) (hh : hs ≤ 8) : ∃ V', f_X16_matches (X : Int) V = some (b2i (mayF hs bs (vI V 212 X) (vI V 213 X)), V') ∧ FrS PH V V' := by
  obtain ⟨q1, q2, q3, q4⟩ := id hf
  have hlen := q3.1
  unfold f_X16_matches
  rw [show w32 (V 156 78) = (bs.length : Int) from q2, w32_nn (by omega)]
  by_cases c0 : bs.length = 0
  · rw [if_pos (by omega)]
    exact ⟨V, by unfold mayF; rw [c0]; rfl, FrS.refl⟩
  · rw [if_neg (by omega), l2_n (by omega) (by decide), Option.bind_some, l2_n (by omega) (by decide), Option.bind_some]
    obtain ⟨U, t1, t2, t3, t4⟩ := v_hashPosting (V := V) (o := vI V 212 X) (d := vI V 213 X) w32_vI w32_vI
    generalize vI V 212 X = o at *
    generalize vI V 213 X = d at *
    obtain ⟨r1, r2, r3, r4⟩ := FltV_fr hf t4 (by unfold PH; omega) (by unfold PH; omega) (fun i => by unfold PH; omega)
    rw [t1, Option.bind_some]
    refine ⟨U, ?_, t4⟩
    let A : Nat → Bool := fun k => (List.range k).all (fun i => tstB bs (bitF o d bs.length i))
    have lp := lp_seq (b := fun s : Int × Int => b_X16_matches_29 s.1 s.2 U) (x := some (b2i (A hs), U)) (fun k => (b2i (A k), ((k : Nat) : Int))) hs
      (fun k hk => by
        show b_X16_matches_29 (b2i (A k)) ((k : Nat) : Int) U = some (.inl (b2i (A (k + 1)), ((k + 1 : Nat) : Int)))
        have e1 : A (k + 1) = (A k && tstB bs (bitF o d bs.length k)) := by
          show (List.range (k + 1)).all _ = _
          rw [List.range_succ, List.all_append]
          simp [A]
        have hbl := bitF_lt (o := o) (d := d) (m := bs.length) (i := k) (by omega)
        have vb := v_bit (V := U) (i := k) (m := bs.length) t2 t3 (by omega) (by omega) (by omega)
        unfold b_X16_matches_29 j_X16_matches_78 j_X16_matches_79
        rw [show w32 (U 156 79) = (hs : Int) from r1, show w32 (U 156 78) = (bs.length : Int) from r2, w32_nn (by omega), w32_nn (by omega), if_pos (by omega), vb, Option.bind_some, w32_b2i, e1]
        cases hA : A k with
        | false => rw [if_pos (by decide)]; rfl
        | true =>
          rw [if_neg (by decide), Bool.true_and]
          unfold tstB
          generalize bitF o d bs.length k = J at hbl vb
          have gb := okB_get (j := J / 8) q3
          have hv : vI U 220 (J / 8) = (((bs.getD (J / 8) 0).toNat : Nat) : Int) := by rw [r4 _ (by omega)]; omega
          rw [dvi_e (p := J) (q := 8) (w32_nn (by omega)) (by decide) (by decide), Option.bind_some, l2_n (by omega) (by decide), Option.bind_some, rmi_e (p := J) (q := 8) (w32_nn (by omega)) (by decide) (by decide), Option.bind_some, hv, tst_bit _ (by omega) _ (Nat.mod_lt _ (by decide))]
          cases ((bs.getD (J / 8) 0).toNat.testBit (J % 8)) <;> rfl)
      (by
        show b_X16_matches_29 (b2i (A hs)) ((hs : Nat) : Int) U = _
        unfold b_X16_matches_29
        rw [show w32 (U 156 79) = (hs : Int) from r1, if_neg (by omega), bz_e b2i_v]) FU 0 (by omega) (by unfold FU; omega)
    have e2 : mayF hs bs o d = A hs := by
      unfold mayF
      have : (bs.length == 0) = false := by simpa using c0
      rw [this]; rfl
    rw [e2]
    exact lp
end VMKF
