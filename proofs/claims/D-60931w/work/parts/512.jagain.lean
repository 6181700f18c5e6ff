/-! a request goes out again, both sides -/
section JAGAIN
variable {M M1 : MM} {V V' W : VV} {m al N p t nb oth Z L k n s K q i : Nat} {pa tk : Nat → Nat} {own : Nat → Ky} {sd ps sn pu rf : Nat → Int} {tm ad ddl : Int} {lf : Nat → Nat} {b0 B : Nat × Nat} {h : Gh} {eg : EG} {pb as : Nat → Option Nat} {mn sto : Nat → Int} {fa : Nat → Nat} {Y Y' : Ys} {Lb : Nat → List Trm} {LA : Nat → List Nat} {dn : Nat → Int} {ev tn nS : Nat → Nat} {w w' : Wd} {KL : List Ky} {y x : Rq} {R : List Rq}
theorem set_mem (hx : x ∈ R.set i y) : x = y ∨ x ∈ R := by
  rcases List.mem_or_eq_of_mem_set hx with h | h
  · exact Or.inr h
  · exact Or.inl h
theorem set_split (hi : i < R.length) : R = R.take i ++ R.getD i q0 :: R.drop (i + 1) ∧ R.set i y = R.take i ++ y :: R.drop (i + 1) := by
  refine ⟨(er_split hi).1, ?_⟩
  rw [List.set_eq_take_append_cons_drop, if_pos hi]
theorem pw_set (h : R.Pairwise (fun a b => qNum a < qNum b)) (hi : i < R.length) (hn : qNum y = qNum (R.getD i q0)) : (R.set i y).Pairwise (fun a b => qNum a < qNum b) := by
  obtain ⟨e1, e2⟩ := set_split (y := y) hi
  rw [e1] at h
  rw [e2]
  rw [List.pairwise_append, List.pairwise_cons] at h ⊢
  refine ⟨h.1, ⟨fun a ha => by rw [hn]; exact h.2.1.1 a ha, h.2.1.2⟩, fun a ha b hb => ?_⟩
  rcases List.mem_cons.mp hb with z | z
  · rw [z, hn]; exact h.2.2 a ha _ (List.mem_cons_self ..)
  · exact h.2.2 a ha b (List.mem_cons_of_mem _ z)
theorem rqv_set (hi : i < R.length) (hw : qWrk y = qWrk (R.getD i q0)) (ht : qTyp y = qTyp (R.getD i q0)) : rqv t (R.set i y) = rqv t R := by
  obtain ⟨e1, e2⟩ := set_split (y := y) hi
  rw [e2]
  conv => rhs; rw [e1]
  unfold rqv
  rw [List.filter_append, List.filter_append, List.filter_cons, List.filter_cons, hw]
  split
  · simp [ht]
  · rfl
theorem OKw_again (hp : p < N) (hN : N ≤ 32) (hO : okW N own tm w) (hE : EvI N ev w) (hP : PI KL tm (wT w) k w) (hT : ∀ q, q < N → okTK KL (wT w q)) (hi : i < (wQ w p).length) (hy : y = (wQ w p).getD i q0) (hs : qSnt y < 4) : OKw N own tm KL k ev w (againY N sd tm w p i y) := by
  have ym : y ∈ wQ w p := by rw [hy]; exact getD_mem hi
  have s := PI_send (N := N) (sd := sd) (ad := qAdr y) (p := p) (by omega) (hP.2.2.2.1 p y ym) hP
  have gq : qNum (goQ y (tm + wst w 4)) = qNum ((wQ w p).getD i q0) := by rw [← hy]; rfl
  have wq : ∀ q, wQ (againY N sd tm w p i y) q = if q = p then (wQ w p).set i (goQ y (tm + wst w 4)) else wQ w q := fun q => by
    show fup (wQ w) p _ q = _
    by_cases c : q = p
    · rw [c, fup_eq, if_pos rfl]
    · rw [fup_ne c, if_neg c]
  refine ⟨⟨(snd_ok hO.1).1, hO.2.1, hO.2.2.1, fun q hq => ?_⟩, fun q hq => ?_, ⟨s.1, s.2.1, s.2.2.1, fun q z hz => ?_, rfl⟩, hT, fun t q ht => ?_⟩
  · obtain ⟨a1, a2, a3, a4, a5, a6⟩ := hO.2.2.2 q hq
    refine ⟨a1, a2, a3, a4, ?_, fun z hz => ?_⟩
    · rw [wq]
      by_cases c : q = p
      · rw [if_pos c]; rw [c] at a5; exact pw_set a5 hi gq
      · rw [if_neg c]; exact a5
    · rw [wq] at hz
      by_cases c : q = p
      · rw [if_pos c] at hz
        rw [c] at a6 ⊢
        rcases set_mem hz with z1 | z1
        · obtain ⟨b1, b2⟩ := a6 y ym
          rw [z1]
          exact ⟨b1, b2.1, b2.2.1, b2.2.2.1, b2.2.2.2.1, by have := b2.2.2.2.2; show 0 ≤ qSnt y + 1 ∧ qSnt y + 1 ≤ 4; omega⟩
        · exact a6 z z1
      · rw [if_neg c] at hz; exact a6 z hz
  · obtain ⟨a1, a2, a3⟩ := hE q hq
    rw [wq]
    by_cases c : q = p
    · rw [if_pos c, List.length_set]; rw [c] at a1 a2 a3 ⊢; exact ⟨a1, a2, a3⟩
    · rw [if_neg c]; exact ⟨a1, a2, a3⟩
  · rw [wq] at hz
    by_cases c : q = p
    · rw [if_pos c] at hz
      rcases set_mem hz with z1 | z1
      · rw [z1]; exact hP.2.2.2.1 p y ym
      · exact hP.2.2.2.1 p z z1
    · rw [if_neg c] at hz; exact hP.2.2.2.1 q z hz
  · rw [wq]
    by_cases c : q = p
    · rw [if_pos c, c]
      exact rqv_set hi (by rw [← hy]; rfl) (by rw [← hy]; rfl)
    · rw [if_neg c]
theorem j_again (hJ : JX M V m al N pa own sd ps sn pu rf tm tk pb as nb Lb LA dn KL k h lf b0 eg mn sto fa Z ev oth tn Y) (hN : 12 + N ≤ 44) (hB : bdg N ev oth) (hp : p < N) (hi : i < (wQ (yw Y) p).length) (hy : y = (wQ (yw Y) p).getD i q0) (hs : s ∈ slQ V p) (hsy : gQ V s = y) (hsn : qSnt y < 4) :
    ∃ M' V' h', f_X17_sendAgain ((pa p : Nat) : Int) (((h.2.2.2.2 p).2 i : Nat) : Int) M = some M' ∧ f_X16_go (p : Int) (s : Int) V = some V' ∧ JX M' V' m al N pa own sd ps sn pu rf tm tk pb as nb Lb LA dn KL k h' lf b0 eg mn sto fa Z ev (oth + 1) tn (setW Y (againY N sd tm (yw Y) p i y)) ∧ FK (fun z => z == 1 || z == 5) M M' ∧ FrS PG V V' ∧ SK V V' := by
  obtain ⟨j1, j2, j3, j4, j5, j6, j7⟩ := id hJ
  have hC := j1.1.1.1
  obtain ⟨L, hP, hL⟩ := j2.1
  have o := OKw_again (sd := sd) hp (by omega) j2.2.1 j2.2.2.1 j5 (fun q hq => (j7 q hq).2) hi hy hsn
  obtain ⟨M', h', a1, a2, a3⟩ := cp_again hC j2.2.1 hp hi hy
  obtain ⟨V', L', b1, b2, b3, b4, b5, b6⟩ := vp_again hP j2.2.1 hp hi hs (by rw [hsy]; exact hy) (by rw [← hy]; exact hsn) (bd_L j2.2.2.1 hB hL)
  rw [← hy] at b2
  exact ⟨M', V', h', a1, b1, JX_w hJ hN a2 a3 (by decide) (G5_fs b5 (fun a i z => PG_5 z)) b2 (by show L' ≤ 2 * (sumN (wnx (yw Y)) N + (oth + 1)); omega) o, a3, b5, b6⟩
end JAGAIN
