/-! what is told -/
def itm (x : Post) : It := (x.2.1, x.2.2.1, x.2.2.2.1)
def TellV (V : VV) (tl : List It) : Prop := vI V 156 83 = (tl.length : Int) ∧ tl.length ≤ 30 ∧ ∀ i, i < tl.length → vI V 221 i = (tl.getD i it0).1 ∧ vI V 222 i = (tl.getD i it0).2.1 ∧ vI V 223 i = (tl.getD i it0).2.2
def PT (a i : Nat) : Prop := (221 ≤ a ∧ a ≤ 223) ∨ (a = 156 ∧ (i = 83 ∨ i = 84))
/-- what matches, behind some: a page of it, and whether there are more -/
def mtcS (h : Nat) (bs : List Int) (ps : List Post) : List Post := ps.filter (fun x => mayF h bs x.2.1 x.2.2.1)
def pageS (skip : Nat) (ps : List Post) : List It := ((ps.drop skip).take 30).map itm
def moreS (skip : Nat) (ps : List Post) : Bool := decide (30 < (ps.drop skip).length)
def chkS (key : Ky) (cl : List (Int × Int)) (S : List Post) : List It := cl.filterMap (fun c => (S.find? (fun y => decide (pid y = (key, c.1, c.2)))).map itm)
section VTELL
variable {V W : VV} {tl : List It} {X p : Nat} {bs : List Int}
theorem getD_snoc {α : Type} {l : List α} {x d : α} {i : Nat} (h : i < l.length + 1) : (l ++ [x]).getD i d = if i = l.length then x else l.getD i d := by
  by_cases c : i = l.length
  · rw [if_pos c, c]; simp
  · rw [if_neg c, getD_apl (by omega)]
theorem v_tell (hX : X < 6400) (ht : TellV V tl) (hl : tl.length < 30) : ∃ V', f_X16_tell (X : Int) V = some V' ∧ TellV V' (tl ++ [itm (gP V X)]) ∧ FrS PT V V' ∧ vI V' 156 84 = vI V 156 84 := by
  obtain ⟨t1, t2, t3⟩ := ht
  refine ⟨st2 (st2 (st2 (st2 V 221 tl.length (vI V 212 X)) 222 tl.length (vI V 213 X)) 223 tl.length (vI V 214 X)) 156 83 ((tl.length + 1 : Nat) : Int), ?_, ⟨?_, by simp; omega, fun i hi => ?_⟩, ?_, ?_⟩
  · unfold f_X16_tell
    have r1 : ∀ U : VV, vI U 156 83 = (tl.length : Int) → w32 (U 156 83) = (tl.length : Int) := fun U h => h
    simp (disch := omega) only [l2_n, s2_n, Option.bind_some, vI_ne, p2_e, r1 V t1, r1 (st2 V 221 tl.length (vI V 212 X)) (by rw [vI_ne (by omega)]; exact t1), r1 (st2 (st2 V 221 tl.length (vI V 212 X)) 222 tl.length (vI V 213 X)) (by rw [vI_ne (by omega), vI_ne (by omega)]; exact t1), r1 (st2 (st2 (st2 V 221 tl.length (vI V 212 X)) 222 tl.length (vI V 213 X)) 223 tl.length (vI V 214 X)) (by rw [vI_ne (by omega), vI_ne (by omega), vI_ne (by omega)]; exact t1), cadd1]
  · rw [vI_eq rfl, w32_nn (by omega)]; simp
  · rw [List.length_append] at hi
    have hi : i < tl.length + 1 := hi
    rw [getD_snoc hi]
    by_cases c : i = tl.length
    · rw [if_pos c, c]
      simp (disch := omega) only [vI_ne, vI_eq, w32_vI]
      exact ⟨rfl, rfl, rfl⟩
    · rw [if_neg c]
      simp (disch := omega) only [vI_ne]
      exact t3 i (by omega)
  · refine (((FrS_st ?_).trans (FrS_st ?_)).trans (FrS_st ?_)).trans (FrS_st ?_) <;> unfold PT <;> omega
  · simp (disch := omega) only [vI_ne]
theorem TellV_fr {P : Nat → Nat → Prop} (ht : TellV V tl) (f : FrS P V W) (h1 : ¬ P 156 83) (h2 : ∀ i, ¬ P 221 i) (h3 : ∀ i, ¬ P 222 i) (h4 : ∀ i, ¬ P 223 i) : TellV W tl := by
  obtain ⟨a, b, c⟩ := ht
  exact ⟨by rw [f.vI h1]; exact a, b, fun i hi => by rw [f.vI (h2 i), f.vI (h3 i), f.vI (h4 i)]; exact c i hi⟩
def PM (a i : Nat) : Prop := (159 ≤ a ∧ a ≤ 161) ∨ (221 ≤ a ∧ a ≤ 223) ∨ a = 216 ∨ (a = 156 ∧ (i = 72 ∨ (81 ≤ i ∧ i ≤ 84)))
theorem v_findMatches {S : List Post} {e q n : Nat} {hs skip : Nat} (h : StV V p S) (hp : p < 32) (he : mA e n) (hq : q + 5 ≤ n) (hn : n ≤ 1000000) (hne : e ≠ 216) (hf : FltV V hs bs) (hh : hs ≤ 8) (hsk : skip ≤ 70000) : ∃ V', f_X16_findMatches (p : Int) (e : Int) (q : Int) (skip : Int) V = some V' ∧ TellV V' (pageS skip (mtcS hs bs (choS (gk V e q) S))) ∧ vI V' 156 84 = b2i (moreS skip (mtcS hs bs (choS (gk V e q) S))) ∧ FrS PM V V' := by
  obtain ⟨V1, Ls, c1, c2, c3, c4, c5, c6⟩ := v_choose h hp he hq hn hne
  have hl := h.2.1.1
  generalize hps : choS (gk V e q) S = ps at c6
  have hpl : ps.length = Ls.length := by rw [← c6, List.length_map]
  have hlen : Ls.length ≤ 200 := by
    rw [← hpl, ← hps]
    exact Nat.le_trans (List.length_filter_le _ _) hl
  have fV1 : FrS PM V V1 := fun a i hPm => c2 a i (fun z => hPm (Or.inr (Or.inr (Or.inl z)))) (fun z => hPm (Or.inr (Or.inr (Or.inr ⟨z.1, Or.inl z.2⟩))))
  let V3 := st2 (st2 V1 156 83 0) 156 84 0
  have fV3 : FrS PM V V3 := (fV1.trans (FrS_st (by unfold PM; omega))).trans (FrS_st (by unfold PM; omega))
  unfold f_X16_findMatches
  rw [c1, Option.bind_some, p2_e, Option.bind_some, p2z_e (Or.inl rfl), Option.bind_some]
  unfold l_X16_findMatches_23
  have gpV : ∀ U, FrS PM V U → ∀ r, gP U r = gP V r := fun U hU r => gP_ext (gk_ext (fun i _ => hU.vI (by unfold PM; omega))) (hU.vI (by unfold PM; omega)) (hU.vI (by unfold PM; omega)) (hU.vI (by unfold PM; omega)) (hU.vI (by unfold PM; omega))
  let Mk : Nat → List Post := fun k => mtcS hs bs (ps.take k)
  have mk : ∀ k, k < ps.length → Mk (k + 1) = Mk k ++ if mayF hs bs (ps.getD k post0).2.1 (ps.getD k post0).2.2.1 = true then [ps.getD k post0] else [] := by
    intro k hk
    show mtcS hs bs (ps.take (k + 1)) = _
    rw [take_s (d := post0) hk]
    unfold mtcS
    rw [List.filter_append]
    congr 1
    generalize ps.getD k post0 = y
    cases hm : mayF hs bs y.2.1 y.2.2.1 <;> simp [hm]
  have mkl : ∀ k, (Mk k).length ≤ 200 := fun k => by
    have a1 := List.length_filter_le (fun x : Post => mayF hs bs x.2.1 x.2.2.1) (ps.take k)
    have a2 : (ps.take k).length ≤ ps.length := by rw [List.length_take]; omega
    show (mtcS hs bs (ps.take k)).length ≤ 200
    unfold mtcS
    omega
  -- the whole begins with the first ones
  have pre : ∀ k, k ≤ ps.length → ∃ R, mtcS hs bs ps = Mk k ++ R := fun k hk => ⟨mtcS hs bs (ps.drop k), by
    show _ = mtcS hs bs (ps.take k) ++ _
    unfold mtcS
    rw [← List.filter_append, List.take_append_drop]⟩
  have key := lp_inv2 (b := fun s : Int × Int × VV => b_X16_findMatches_23 (skip : Int) s.1 s.2.1 s.2.2) (fun k s => s.1 = ((Mk k).length : Int) ∧ s.2.1 = (k : Int) ∧ ((Mk k).drop skip).length ≤ 30 ∧ TellV s.2.2 (((Mk k).drop skip).map itm) ∧ vI s.2.2 156 84 = 0 ∧ FrS PM V s.2.2 ∧ vI s.2.2 156 72 = (Ls.length : Int) ∧ ArrN s.2.2 216 Ls) (fun r => ∃ V', r = some V' ∧ TellV V' (pageS skip (mtcS hs bs ps)) ∧ vI V' 156 84 = b2i (moreS skip (mtcS hs bs ps)) ∧ FrS PM V V') ps.length
    (by
      rintro k ⟨c, i, U⟩ hk ⟨rfl, rfl, g0, g1, g2, g3, g4, g5⟩
      dsimp only at g0 g1 g2 g3 g4 g5 ⊢
      have hm1 := mk k hk
      have hml := mkl k
      have u216 := g5 k (by omega)
      obtain ⟨si, si2, si3⟩ := c5 _ (getD_mem (d := 0) (show k < Ls.length by omega))
      have hgp : ps.getD k post0 = gP V (Ls.getD k 0) := by
        rw [← c6]
        have e1 : Ls.getD k 0 = Ls[k]'(by omega) := by grind
        rw [e1]
        grind
      generalize Ls.getD k 0 = X at u216 hgp si3
      have hX : X < 6400 := by omega
      have fU : FltV U hs bs := FltV_fr hf g3 (by unfold PM; omega) (by unfold PM; omega) (fun i => by unfold PM; omega)
      obtain ⟨U1, m1, m2⟩ := v_matches (V := U) hX fU hh
      have hgU := gpV U g3 X
      rw [show vI U 212 X = (ps.getD k post0).2.1 by rw [hgp, ← hgU]; rfl, show vI U 213 X = (ps.getD k post0).2.2.1 by rw [hgp, ← hgU]; rfl] at m1
      have m3 : FrS PM U U1 := m2.mono (fun a i q => by unfold PH at q; unfold PM; omega)
      have T1 : TellV U1 (((Mk k).drop skip).map itm) := TellV_fr g1 m2 (by unfold PH; omega) (fun i => by unfold PH; omega) (fun i => by unfold PH; omega) (fun i => by unfold PH; omega)
      have u83 := T1.1
      rw [List.length_map] at u83
      have u84 : vI U1 156 84 = 0 := by rw [m2.vI (by unfold PH; omega)]; exact g2
      have u72 : vI U1 156 72 = (Ls.length : Int) := by rw [m2.vI (by unfold PH; omega)]; exact g4
      have uA : ArrN U1 216 Ls := ArrN_vI g5 (fun i => m2.vI (by unfold PH; omega))
      have run : b_X16_findMatches_23 (skip : Int) ((Mk k).length : Int) (k : Int) U = if mayF hs bs (ps.getD k post0).2.1 (ps.getD k post0).2.2.1 = true then (if skip < (Mk k).length + 1 then (if ((Mk k).drop skip).length = 30 then xit (some (st2 U1 156 84 1)) else (f_X16_tell (X : Int) U1).bind fun V1 => cnt ((((Mk k).length + 1 : Nat) : Int), ((k + 1 : Nat) : Int), V1)) else cnt ((((Mk k).length + 1 : Nat) : Int), ((k + 1 : Nat) : Int), U1)) else cnt (((Mk k).length : Int), ((k + 1 : Nat) : Int), U1) := by
        unfold b_X16_findMatches_23 j_X16_findMatches_74 j_X16_findMatches_92
        rw [show w32 (U 156 72) = (Ls.length : Int) from g4, w32_nn (by omega), w32_nn (by omega), if_pos (by omega), l2_n (by omega) (by decide), Option.bind_some, u216, m1, Option.bind_some]
        dsimp only
        rw [w32_b2i]
        cases hm : mayF hs bs (ps.getD k post0).2.1 (ps.getD k post0).2.2.1 with
        | false => rw [if_pos (by decide), if_neg (by decide), cadd1]
        | true =>
          rw [if_neg (by decide), if_pos rfl, cadd1, w32_nn (by omega), w32_nn (by omega), show w32 (U1 156 83) = (((Mk k).drop skip).length : Int) from u83, w32_nn (by omega), show w32 30 = 30 by decide, p2z_e (Or.inr rfl), Option.bind_some, l2_n (by omega) (by decide), Option.bind_some, uA k (by omega), cadd1]
          have u216' : vI U1 216 k = (X : Int) := by rw [m2.vI (by unfold PH; omega)]; exact u216
          rw [← uA k (by omega), u216']
          by_cases c1 : skip < (Mk k).length + 1
          · rw [if_pos (by omega), if_pos c1]
            by_cases c2 : ((Mk k).drop skip).length = 30
            · rw [if_pos (by omega), if_pos c2]
            · rw [if_neg (by omega), if_neg c2, if_pos (by omega)]
          · rw [if_neg (by omega), if_neg c1, if_neg (by omega)]
      rw [run]
      by_cases cm : mayF hs bs (ps.getD k post0).2.1 (ps.getD k post0).2.2.1 = true
      · rw [if_pos cm] at hm1 ⊢
        have l1 : (Mk (k + 1)).length = (Mk k).length + 1 := by rw [hm1]; simp
        by_cases c1 : skip < (Mk k).length + 1
        · rw [if_pos c1]
          have d1 : (Mk (k + 1)).drop skip = (Mk k).drop skip ++ [ps.getD k post0] := by rw [hm1, List.drop_append_of_le_length (by omega)]
          by_cases c2 : ((Mk k).drop skip).length = 30
          · rw [if_pos c2]
            refine Or.inr ⟨_, rfl, _, rfl, ?_, ?_, ?_⟩
            · have : pageS skip (mtcS hs bs ps) = ((Mk k).drop skip).map itm := by
                obtain ⟨R, hR⟩ := pre (k + 1) (by omega)
                unfold pageS
                rw [hR, List.drop_append_of_le_length (by omega), d1, List.append_assoc, List.take_append_of_le_length (by omega), List.take_of_length_le (by omega)]
              rw [this]
              exact TellV_fr T1 (FrS_st (P := fun a i => a = 156 ∧ i = 84) ⟨rfl, rfl⟩) (by omega) (fun i => by omega) (fun i => by omega) (fun i => by omega)
            · rw [vI_eq rfl]
              have : moreS skip (mtcS hs bs ps) = true := by
                obtain ⟨R, hR⟩ := pre (k + 1) (by omega)
                unfold moreS
                rw [hR, List.drop_append_of_le_length (by omega), d1]
                refine decide_eq_true ?_
                rw [List.length_append, List.length_append, c2, List.length_singleton]
                omega
              rw [this]; rfl
            · exact (g3.trans m3).trans (FrS_st (by unfold PM; omega))
          · rw [if_neg c2]
            obtain ⟨U2, t1, t2, t3, t4⟩ := v_tell (V := U1) hX T1 (by rw [List.length_map]; omega)
            rw [t1, Option.bind_some]
            have hgU1 : gP U1 X = ps.getD k post0 := by rw [gpV U1 (g3.trans m3) X, hgp]
            refine Or.inl ⟨_, rfl, by rw [l1], rfl, ?_, ?_, ?_, ?_, ?_, ?_⟩
            · rw [d1, List.length_append, List.length_singleton]; omega
            · rw [d1, List.map_append, ← hgU1]; exact t2
            · rw [t4]; exact u84
            · exact (g3.trans m3).trans (t3.mono (fun a i q => by unfold PT at q; unfold PM; omega))
            · rw [t3.vI (by unfold PT; omega)]; exact u72
            · exact ArrN_vI uA (fun i => t3.vI (by unfold PT; omega))
        · rw [if_neg c1]
          have d1 : (Mk (k + 1)).drop skip = (Mk k).drop skip := by rw [List.drop_of_length_le (by omega), List.drop_of_length_le (by omega)]
          exact Or.inl ⟨_, rfl, by rw [l1], rfl, by rw [d1]; exact g0, by rw [d1]; exact T1, u84, g3.trans m3, u72, uA⟩
      · rw [if_neg cm] at hm1 ⊢
        rw [List.append_nil] at hm1
        exact Or.inl ⟨_, rfl, by rw [hm1], rfl, by rw [hm1]; exact g0, by rw [hm1]; exact T1, u84, g3.trans m3, u72, uA⟩)
    (by
      rintro ⟨c, i, U⟩ ⟨rfl, rfl, g0, g1, g2, g3, g4, g5⟩
      dsimp only at g0 g1 g2 g3 g4 g5 ⊢
      have e1 : Mk ps.length = mtcS hs bs ps := by show mtcS hs bs (ps.take ps.length) = _; rw [List.take_length]
      rw [e1] at g0 g1
      refine ⟨some U, ?_, U, rfl, ?_, ?_, g3⟩
      · unfold b_X16_findMatches_23
        rw [show w32 (U 156 72) = (Ls.length : Int) from g4, hpl, if_neg (by omega)]
      · unfold pageS
        rw [List.take_of_length_le (by omega)]; exact g1
      · rw [g2]
        have : moreS skip (mtcS hs bs ps) = false := by unfold moreS; exact decide_eq_false (by omega)
        rw [this]; rfl) FU 0 (0, 0, V3) (by omega) (by unfold FU; omega)
    (by
      have e0 : Mk 0 = [] := by show mtcS hs bs (ps.take 0) = _; simp [mtcS]
      dsimp only
      rw [e0]
      refine ⟨rfl, rfl, by simp, ⟨?_, by simp, fun i hi => by simp at hi⟩, ?_, fV3, ?_, ?_⟩
      · show vI (st2 (st2 V1 156 83 0) 156 84 0) 156 83 = _
        rw [vI_ne (by decide), vI_eq rfl]; simp [w32_0]
      · show vI (st2 (st2 V1 156 83 0) 156 84 0) 156 84 = _
        rw [vI_eq rfl]; rfl
      · show vI (st2 (st2 V1 156 83 0) 156 84 0) 156 72 = _
        rw [vI_ne (by decide), vI_ne (by decide)]; exact c3
      · refine ArrN_vI c4 (fun i => ?_)
        show vI (st2 (st2 V1 156 83 0) 156 84 0) 216 i = _
        rw [vI_ne (by omega), vI_ne (by omega)])
  exact key
end VTELL
