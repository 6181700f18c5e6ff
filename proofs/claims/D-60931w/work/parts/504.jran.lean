/-! a work has run on both sides -/
section JRAN
variable {S : Nat → Bool} {M M1 : MM} {V V' W : VV} {m al N p t t' nb oth oth' Z Z' L L' k k' kx n F : Nat} {pa tk : Nat → Nat} {own : Nat → Ky} {sd ps sn pu rf : Nat → Int} {tm ad : Int} {lf : Nat → Nat} {b0 : Nat × Nat} {h h' : Gh} {eg : EG} {pb as : Nat → Option Nat} {mn sto : Nat → Int} {fa : Nat → Nat} {Y Y1 Ya Y' : Ys} {Lb : Nat → List Trm} {LA : Nat → List Nat} {dn : Nat → Int} {ev ev' tn tn1 tn' : Nat → Nat} {w w' : Wd} {KL : List Ky} {key : Ky} {l : List Int} {r : Option MM} {P : Wd → Prop}
/-- the others stay as they are -/
theorem wE_ft (h : wE N own Lb Y t') (f : FT t Y Y1) (hne : t' ≠ t) (hr : yv Y 226 t' = 1 → 0 ≤ yv Y 229 t → t' < 12 → yv Y 229 t' ≠ yv Y 229 t) : wE N own Lb Y1 t' := by
  obtain ⟨a, b, c⟩ := h
  have g : ∀ x, (226 ≤ x ∧ x ≤ 264 ∧ x ≠ 250 ∧ x ≠ 252) → yv Y1 x t' = yv Y x t' := fun x y => f.2.2.1 x t' (by unfold wrT; omega)
  have gq := f.2.2.2.2.1 t' hne
  have rm : rmt own Y1 t' := fun z1 z2 => by
    rw [g 226 (by omega)] at z1
    rw [g 230 (by omega)] at z2
    have hq := (wOK_q a z1 (by omega) (by omega)).2.2.2.2.1
    have qi : qI Y1 t' = qI Y t' := by
      unfold qI
      rw [g 230 (by omega), g 247 (by omega), g 263 (by omega)]
    have qq : qQ Y1 t' = qQ Y t' := by unfold qQ; rw [qi, gq.2.2.2]
    have yy : yp Y1 t' = yp Y t' := by unfold yp; rw [show vI (ys Y1) 228 t' = vI (ys Y) 228 t' from g 228 (by omega)]
    have i1 := qI_lt hq
    have i2 := hq.2.2.1.1
    have i3 := hq.2.2.1.2 _ (getD_mem (L := qO (yq Y) t') (j := qI Y t') (d := 0) (by omega))
    have i4 := hq.1.2
    rw [qq, yy, f.2.2.2.2.2.2.1 (qQ Y t') (by unfold qQ; omega)]
    exact b z1 z2
  refine ⟨wOK_ft a f hne hr, rm, fun z => ⟨fun z3 => ?_, fun z4 o => ?_⟩⟩
  · rw [g 226 (by omega)] at z
    rw [g 230 (by omega)] at z3
    have := (c z).1 z3
    rw [g 254 (by omega), gq.1]; exact this
  · exact absurd o (rm z (by omega))
theorem rec_ne (hrec : recY nb Y) (hh : hdW N Y t) (hne : t' ≠ t) : yv Y 226 t' = 1 → 0 ≤ yv Y 229 t → t' < 12 → yv Y 229 t' ≠ yv Y 229 t := fun z1 z2 z3 => by
  by_cases c : t < 12
  · exact (hrec.2 t c (by rw [hh.1]; decide)).2.2 t' z3 hne (by rw [z1]; decide)
  · have := (hh.2.2.2 (by omega)).1; omega
theorem cl_ans0 (hc : ClP P N own sd tm p t) (h : P (yw Y)) : P (yw (ans0 t key l Y)) := by
  unfold ans0
  split
  · exact h
  · split
    · exact h
    · split
      · exact h
      · split
        · exact cl_tm hc h
        · exact cl_tc hc h
theorem cl_fai0 (hc : ClP P N own sd tm p t) (h : P (yw Y)) : P (yw (fai0 t key Y)) := by
  unfold fai0
  split
  · exact h
  · split
    · exact h
    · exact hc.1 _ h
/-- both sides have run the work -/
theorem j_ran (hN : 12 + N ≤ 44) (ht : t < 12 + N) (hrec : recY nb Y) (hh : hdW N Y t) (ho : ∀ t', t' < 44 → t' ≠ t → wE N own Lb Y t') (h44 : ∀ t', t' < 44 → 12 + N ≤ t' → yv Y 226 t' = 0) (hK : KL.length ≤ 96 ∧ ∀ p, p < N → own p ∈ KL ∧ okTK KL (wT (yw Y) p)) (hPI : PI KL tm (wT (yw Y)) k (yw Y')) (f : FT t Y Ya) (e : EndP V V' m al N own sd ps sn pu rf tm Lb oth Z ev tn1 tn' t Ya Y') (g : RW r M m al N pa own sd ps sn pu rf tm lf b0 tk pb as nb Lb LA dn t F Y') :
    ∃ M' h' lf' b0' eg' mn' sto' fa', r = some M' ∧ JX M' V' m al N pa own sd ps sn pu rf tm tk pb as nb Lb LA dn KL k h' lf' b0' eg' mn' sto' fa' Z ev oth tn' Y' ∧ FK F11 M M' ∧ ((∀ z, z ≠ t → lf' z = lf z) ∧ lf t ≤ lf' t ∧ lf' t + 2 * mu own Y' t ≤ F) ∧ BS b0 b0' Y' t := by
  obtain ⟨M', h', lf', eg', mn', sto', fa', b0', a1, a2, a3, a4, a5⟩ := g
  obtain ⟨e1, e2, e3, e4, e5, e6, e7⟩ := e
  have ff := f.trans e7
  have eT : wT (yw Y') = wT (yw Y) := hPI.2.2.2.2
  refine ⟨M', h', lf', b0', eg', mn', sto', fa', a1, ⟨a2, e1, fun t' z => ?_, fun t' z1 z2 => ?_, by rw [eT]; exact hPI, hK.1, fun q hq => by rw [eT]; exact hK.2 q hq⟩, a3, a4, a5⟩
  · by_cases c : t' = t
    · rw [c]; exact e6
    · exact wE_ft (ho t' z c) ff c (rec_ne hrec hh c)
  · rw [show yv Y' 226 t' = yv Y 226 t' from ff.2.2.1 226 t' (by unfold wrT; omega)]
    exact h44 t' z1 z2
end JRAN
