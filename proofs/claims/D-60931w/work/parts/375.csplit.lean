/-! the last bucket splits -/
def A3 (B : Nat → Nat) (bA t q : Nat) : Prop := q = t ∨ q = t + 1 ∨ ∃ i, i < bA ∧ B i ≤ q ∧ q ≤ B i + 4
section CSPLIT
variable {A : Nat → Prop} {M M1 : MM} {ow ow1 : Nat → Nat × Nat} {t ko m n bA i j c : Nat} {own : Ky} {T : List Row} {pf : Nat → Bool} {B : Nat → Nat} {P : Nat → Bool → List Nat} {b : Bool}
theorem filt_map {α β : Type} {f : α → β} {p : β → Bool} {l : List α} : (l.filter (fun x => p (f x))).map f = (l.map f).filter p := by
  rw [List.filter_map]
  rfl
/-- the loop: those of the number stay, the others come to the new bucket -/
theorem c_splitL (hu : UN M) (hS : TabS M t ko m (n + 1)) (hO : ky (kC M ko) = own) (hB : BkS M ow t m bA B) (hn : 1 ≤ n ∧ n < bA) {L : List Nat} (hr : RowC M (rwA B (n - 1) false) m L) (hnd : L.Nodup) (hr2 : RowC M (rwA B n false) m []) :
    ∃ M', l_X20_split_27 (t : Int) ((B (n - 1) : Nat) : Int) ((n - 1 : Nat) : Int) ((B n : Nat) : Int) 0 M = some M' ∧ RowC M' (rwA B (n - 1) false) m (L.filter (fun c => decide (kc (ctc M c).1 own = ((n - 1 : Nat) : Int)))) ∧ RowC M' (rwA B n false) m (L.filter (fun c => !decide (kc (ctc M c).1 own = ((n - 1 : Nat) : Int)))) ∧ ExC (fun q => (q = rwA B (n - 1) false ∨ q = rwA B (n - 1) false + 1) ∨ (q = rwA B n false ∨ q = rwA B n false + 1)) M M' := by
  obtain ⟨R1, hR1⟩ : ∃ R1, R1 = rwA B (n - 1) false := ⟨_, rfl⟩
  obtain ⟨R2, hR2⟩ : ∃ R2, R2 = rwA B n false := ⟨_, rfl⟩
  have hb := hB.1
  have ap : R1 ≠ R2 ∧ R1 ≠ R2 + 1 ∧ R1 + 1 ≠ R2 := by
    refine ⟨fun q => ?_, fun q => ?_, fun q => ?_⟩
    · have := (rw_apart (b := false) (b' := false) (i := n - 1) (j := n) hB (by omega) (by omega) (by rw [← hR1, ← hR2]; exact Or.inl q)).1; omega
    · have := (rw_apart (b := false) (b' := false) (i := n - 1) (j := n) hB (by omega) (by omega) (by rw [← hR1, ← hR2]; exact Or.inr (Or.inl q))).1; omega
    · have := (rw_apart (b := false) (b' := false) (i := n - 1) (j := n) hB (by omega) (by omega) (by rw [← hR1, ← hR2]; exact Or.inr (Or.inr q))).1; omega
  have e1 : R1 = B (n - 1) + 1 := hR1
  have e2 : R2 = B n + 1 := hR2
  rw [← hR1] at hr ⊢
  rw [← hR2] at hr2 ⊢
  let kp : Nat → Bool := fun c => decide (kc (ctc M c).1 own = ((n - 1 : Nat) : Int))
  let D : Nat → List Nat := fun k => (L.take k).filter kp
  let F : Nat → List Nat := fun k => (L.take k).filter (fun c => !kp c)
  have lL := hr.2.2.1
  have bk1 := (hB.2.1 (n - 1) (by omega)).2.1
  have bk2 := (hB.2.1 n (by omega)).2.1
  have ctL := hr.2.2.2.2.2
  have lenDF : ∀ k, k ≤ L.length → (D k).length + (F k).length = k := by
    intro k hk
    have : ∀ l : List Nat, (l.filter kp).length + (l.filter (fun c => !kp c)).length = l.length := fun l => by
      induction l with
      | nil => rfl
      | cons y l ih =>
        cases hy : kp y
        · rw [List.filter_cons_of_neg (by rw [hy]; decide), List.filter_cons_of_pos (by rw [hy]; rfl), List.length_cons, List.length_cons]; omega
        · rw [List.filter_cons_of_pos hy, List.filter_cons_of_neg (by rw [hy]; decide), List.length_cons, List.length_cons]; omega
    have := this (L.take k)
    rw [List.length_take] at this
    show ((L.take k).filter kp).length + ((L.take k).filter (fun c => !kp c)).length = k
    omega
  have m20 := hr.2.2.2.1
  obtain ⟨⟨z, M'⟩, n2, hn2, ⟨rfl, g1, g2, g3⟩, q2⟩ := lp_inv (b := fun s : Int × MM => b_X20_split_27 (t : Int) ((B (n - 1) : Nat) : Int) ((n - 1 : Nat) : Int) ((B n : Nat) : Int) s.1 s.2) (fun k s => s.1 = ((D k).length : Int) ∧ RowC s.2 R1 m (D k ++ L.drop k) ∧ RowC s.2 R2 m (F k) ∧ ExC (fun q => (q = R1 ∨ q = R1 + 1) ∨ (q = R2 ∨ q = R2 + 1)) M s.2) L.length
    (by
      rintro k ⟨z, U⟩ hk ⟨rfl, g1, g2, g3⟩
      dsimp only at g1 g2 g3 ⊢
      have hdr : L.drop k = L.getD k 0 :: L.drop (k + 1) := by
        have e : L.getD k 0 = L[k]'hk := by grind
        rw [e, List.drop_eq_getElem_cons hk]
      have htk : L.take (k + 1) = L.take k ++ [L.getD k 0] := take_s hk
      have hcm := getD_mem (d := 0) hk
      generalize hX : L.getD k 0 = X at hdr htk hcm
      have hct := ctL X hcm
      have nR1 := ct_ne hct hr.1
      have nR2 := ct_ne hct hr2.1
      have hctU : isCt U X := hct.exc g3 (by omega) (by omega)
      have hcc : ctc U X = ctc M X := ctc.exc g3 (by omega) (by omega)
      have hD1 : D (k + 1) = D k ++ if kp X = true then [X] else [] := by
        show (L.take (k + 1)).filter kp = _
        rw [htk, List.filter_append]
        congr 1
        cases hy : kp X <;> simp [hy]
      have hF1 : F (k + 1) = F k ++ if kp X = true then [] else [X] := by
        show (L.take (k + 1)).filter (fun c => !kp c) = _
        rw [htk, List.filter_append]
        congr 1
        cases hy : kp X <;> simp [hy]
      have hl := lenDF k (by omega)
      have kinds : ∀ q, ((q = R1 ∨ q = R1 + 1) ∨ (q = R2 ∨ q = R2 + 1)) → (kd M q).1 = 22 ∨ (kd M q).1 = 486 ∨ (kd M q).1 = 23 := by
        intro q hq
        rcases hq with (h | h) | (h | h)
        · rw [h, hr.1.1]; exact Or.inl rfl
        · rw [h, hr.1.2.2]; exact Or.inr (Or.inl rfl)
        · rw [h, hr2.1.1]; exact Or.inl rfl
        · rw [h, hr2.1.2.2]; exact Or.inr (Or.inl rfl)
      obtain ⟨sU, kU⟩ := TabS.exk g3 kinds hS
      have nB : ∀ z, kd M z = (21, 25) → ¬ ((z = R1 ∨ z = R1 + 1) ∨ (z = R2 ∨ z = R2 + 1)) := fun z hz q => by
        have := kinds z q
        rw [hz] at this; simp at this
      have b1U : rR U (B (n - 1)) 0 = (R1 : Int) := by rw [g3.rR (nB _ bk1.1), e1]; exact bk1.2.1
      have b2U : rR U (B n) 0 = (R2 : Int) := by rw [g3.rR (nB _ bk2.1), e2]; exact bk2.2.1
      have kb1 : (kd U (B (n - 1))).1 = 21 := by rw [g3.kd, bk1.1]
      have kb2 : (kd U (B n)).1 = 21 := by rw [g3.kd, bk2.1]
      have szU : rI U R1 1 = ((D k).length + (L.length - k) : Nat) := by rw [g1.2.1, List.length_append, List.length_drop]
      have gX : rR U (R1 + 1) (D k).length = (X : Int) := by
        rw [g1.2.2.2.2.1 _ (by rw [List.length_append, List.length_drop]; omega), hdr]
        congr 1
        simp
      have com : f_X3_common (ko : Int) ((X + 1 : Nat) : Int) U = some (kc (ctc M X).1 own) := by
        rw [e_X3_common sU.2.2.1 hctU.2.2.2]
        congr 1
        rw [kU, kc_comm]
        have : (ctc M X).1 = ky (kC U (X + 1)) := by rw [← hcc]; rfl
        rw [this, ← hO, ← kc_ky]
      have hkl := kc_lo (ctc M X).1 own
      have hkh := kc_hi (ctc M X).1 own
      have run : b_X20_split_27 (t : Int) ((B (n - 1) : Nat) : Int) ((n - 1 : Nat) : Int) ((B n : Nat) : Int) (((D k).length : Nat) : Int) U = if kp X = true then cnt ((((D k).length + 1 : Nat) : Int), U) else (f_X22_remove (R1 : Int) (((D k).length : Nat) : Int) U).bind fun r1 => ck 22 (R2 : Int) r1.2 <| (f_X22_add (R2 : Int) r1.1 r1.2).bind fun M1 => cnt ((((D k).length : Nat) : Int), M1) := by
        unfold b_X20_split_27 j_X20_split_85
        rw [gfr_e kb1, b1U, Option.bind_some, gfi_e g1.1.1, Option.bind_some, szU, w32_nn (by omega), w32_nn (by omega), if_pos (by omega), gfr_e sU.1, sU.2.1, Option.bind_some, Option.bind_some, gfr_e g1.1.1, g1.1.2.1, Option.bind_some, lar_n g1.1.2.2 (by decide) (by have := g1.2.2.1; rw [List.length_append, List.length_drop] at this; omega) (by omega), Option.bind_some, gX, gfr_e (by rw [hctU.1]), hctU.2.1, Option.bind_some, ck_e sU.2.2.1.1, com, Option.bind_some, w32_id (by omega) (by omega), w32_nn (by omega), gfr_e kb2, b2U, Option.bind_some, Option.bind_some, ck_e g1.1.1]
        by_cases cq : kc (ctc M X).1 own = ((n - 1 : Nat) : Int)
        · rw [if_pos cq, if_pos (decide_eq_true cq), cadd1]
        · rw [if_neg cq, if_neg (by simpa [kp] using cq)]
          congr 1
          funext r1
          congr 1
          congr 1
          funext M1
          rw [show ((((D k).length : Nat) : Int) + (-1) + 1) = (((D k).length : Nat) : Int) by omega]
      rw [run]
      by_cases cq : kp X = true
      · rw [if_pos cq] at hD1 hF1 ⊢
        refine ⟨_, rfl, by rw [hD1]; simp, ?_, ?_, g3⟩
        · dsimp only
          have : D (k + 1) ++ L.drop (k + 1) = D k ++ L.drop k := by rw [hD1, hdr, List.append_assoc]; rfl
          rw [this]; exact g1
        · dsimp only
          rw [hF1, List.append_nil]; exact g2
      · rw [if_neg cq] at hD1 hF1 ⊢
        rw [List.append_nil] at hD1
        obtain ⟨U1, r1, r2, r3⟩ := c_remove (i := (D k).length) g1 (by rw [List.length_append, List.length_drop]; omega)
        have hget : (D k ++ L.drop k).getD (D k).length 0 = X := by rw [hdr]; simp
        have hers : (D k ++ L.drop k).eraseIdx (D k).length = D k ++ L.drop (k + 1) := by
          rw [hdr, List.eraseIdx_append_of_length_le (Nat.le_refl _), Nat.sub_self]; rfl
        rw [hget] at r1
        rw [hers] at r2
        have g2' : RowC U1 R2 m (F k) := g2.exc r3 (by omega) (by omega) (fun c hc => by
          have hc2 := g2.2.2.2.2.2 c hc
          have := ct_ne hc2 g1.1
          omega)
        have hctU1 : isCt U1 X := hctU.exc r3 (by omega) (by omega)
        obtain ⟨U2, s1, s2', s3⟩ := c_add g2' (by omega) hctU1
        rw [r1, Option.bind_some]
        dsimp only
        rw [ck_e g2'.1.1, s1, Option.bind_some]
        refine ⟨_, rfl, by rw [hD1], ?_, ?_, (g3.trans (r3.mono (fun q hq => Or.inl hq))).trans (s3.mono (fun q hq => Or.inr hq))⟩
        · dsimp only
          rw [hD1]
          exact r2.exc s3 (by omega) (by omega) (fun c hc => by
            have hc2 := r2.2.2.2.2.2 c hc
            have := ct_ne hc2 g2'.1
            omega)
        · dsimp only
          rw [hF1]; exact s2') FU 0 (0, M) (by omega) (by unfold FU; omega) ⟨rfl, by show RowC M R1 m ([] ++ L); exact hr, by show RowC M R2 m []; exact hr2, ExC.refl⟩
  dsimp only at g1 g2 g3
  have eD : D L.length = L.filter kp := by show (L.take L.length).filter kp = _; rw [List.take_length]
  have eF : F L.length = L.filter (fun c => !kp c) := by show (L.take L.length).filter _ = _; rw [List.take_length]
  rw [List.drop_length, List.append_nil] at g1
  refine ⟨M', ?_, by rw [eD] at g1; exact g1, by rw [eF] at g2; exact g2, g3⟩
  unfold l_X20_split_27
  refine q2.trans ?_
  refine lpN_end (b := fun s : Int × MM => b_X20_split_27 (t : Int) ((B (n - 1) : Nat) : Int) ((n - 1 : Nat) : Int) ((B n : Nat) : Int) s.1 s.2) hn2 ?_
  dsimp only
  have nB : ¬ ((B (n - 1) = R1 ∨ B (n - 1) = R1 + 1) ∨ (B (n - 1) = R2 ∨ B (n - 1) = R2 + 1)) := by
    rintro ((q | q) | (q | q))
    · have := hr.1.1; rw [← q, bk1.1] at this; cases this
    · have := hr.1.2.2; rw [← q, bk1.1] at this; cases this
    · have := hr2.1.1; rw [← q, bk1.1] at this; cases this
    · have := hr2.1.2.2; rw [← q, bk1.1] at this; cases this
  unfold b_X20_split_27
  rw [gfr_e (by rw [g3.kd, bk1.1]), g3.rR nB, bk1.2.1, Option.bind_some]
  rw [← e1, gfi_e g1.1.1, Option.bind_some, g1.2.1, if_neg (by omega)]
end CSPLIT
