/-- the settings' bounds -/
def BndV (V : VV) : Prop := ∀ i, i < 11 → vI V 163 i = leL.getD i 0 ∧ vI V 164 i = moL.getD i 0
theorem BndV_fr {S : Nat → Bool} {V V1 : VV} (h : FrV S V V1) (hs : S 8 = false) (hb : BndV V) : BndV V1 := fun i hi => by
  rw [fv h (show S (mv 163 i) = false from hs), fv h (show S (mv 164 i) = false from hs)]; exact hb i hi
theorem bnd_w : ∀ i, i < 11 → w32 (leL.getD i 0) = leL.getD i 0 ∧ w32 (moL.getD i 0) = moL.getD i 0 := by decide
theorem v_set {V : VV} {st : Nat → Int} {tm lo w v : Int} {fl : List Dg} {L : Nat} (h : VNet V st tm lo fl L) (hb : BndV V) (hw : w32 w = w) (hv : w32 v = v) : ∃ V', f_X16_set w v V = some (b2i (okS w v), V') ∧ VNet V' (if okS w v = true then fup st w.toNat v else st) tm lo fl L ∧ FrV m1 V V' := by
  have w10 : w32 10 = 10 := by decide
  have no : ∀ (b : Bool), b = false → ∃ V', j_X16_set_30 V = some (b2i b, V') ∧ VNet V' (if b = true then fup st w.toNat v else st) tm lo fl L ∧ FrV m1 V V' := fun b hb => by
    rw [hb]
    exact ⟨V, rfl, h, FrV.refl⟩
  unfold f_X16_set
  rw [hw, hv, w10]
  by_cases c1 : w < 0
  · rw [if_pos c1]
    exact no _ (by unfold okS; rw [decide_eq_false (show ¬ 0 ≤ w by omega)]; rfl)
  rw [if_neg c1]
  by_cases c2 : 10 < w
  · rw [if_pos c2]
    exact no _ (by unfold okS; rw [decide_eq_false (show ¬ w ≤ 10 by omega), Bool.and_false]; rfl)
  obtain ⟨k, rfl⟩ : ∃ k : Nat, w = (k : Int) := ⟨w.toNat, by omega⟩
  have hk : k < 11 := by omega
  have b1 := hb k hk
  have b2 := bnd_w k hk
  have tn : (k : Int).toNat = k := Int.toNat_natCast k
  rw [if_neg c2, l2_e hw hk, Option.bind_some, b1.1, b2.1]
  by_cases c3 : v < leL.getD k 0
  · rw [if_pos c3]
    exact no _ (by unfold okS; rw [tn, decide_eq_false (show ¬ leL.getD k 0 ≤ v by omega), Bool.and_false]; rfl)
  rw [if_neg c3, l2_e hw hk, Option.bind_some, b1.2, b2.2]
  by_cases c4 : moL.getD k 0 < v
  · rw [if_pos c4]
    exact no _ (by unfold okS; rw [tn, decide_eq_false (show ¬ v ≤ moL.getD k 0 by omega), Bool.and_false])
  rw [if_neg c4, s2_e hw hk, Option.bind_some]
  have ok : okS (k : Int) v = true := by
    unfold okS
    rw [tn, decide_eq_true (show (0 : Int) ≤ (k : Int) by omega), decide_eq_true (show (k : Int) ≤ 10 by omega), decide_eq_true (show leL.getD k 0 ≤ v by omega), decide_eq_true (show v ≤ moL.getD k 0 by omega)]; rfl
  rw [ok, if_pos rfl, tn]
  obtain ⟨h1, h2, h3, h4, h5, h6, o, o1, o2, o3, o4⟩ := h
  have ne : ∀ a i, a ≠ 162 → vI (st2 V 162 k v) a i = vI V a i := fun a i q => by rw [vI_st2, if_neg (fun z => q z.1)]
  refine ⟨st2 V 162 k v, rfl, ⟨fun i hi => ?_, by rw [ne _ _ (by decide)]; exact h2, by rw [ne _ _ (by decide)]; exact h3, by rw [ne _ _ (by decide)]; exact h4, by rw [ne _ _ (by decide)]; exact h5, h6, o, o1, o2, fun i hi => ?_, fun i j hij hj => by rw [ne _ _ (by decide), ne _ _ (by decide)]; exact o4 i j hij hj⟩, FrV_st (by rfl)⟩
  · show _ = if i = k then v else st i
    rw [vI_st2]
    by_cases q : i = k
    · rw [if_pos q, if_pos ⟨rfl, q⟩, hv]
    · rw [if_neg q, if_neg (fun z => q z.2)]; exact h1 i hi
  · obtain ⟨⟨s1, s2, s3, s4, s5, s6⟩, t1⟩ := o3 i hi
    exact ⟨⟨by rw [ne _ _ (by decide)]; exact s1, by rw [ne _ _ (by decide)]; exact s2, by rw [ne _ _ (by decide)]; exact s3, by rw [ne _ _ (by decide)]; exact s4, s5, fun k hk => by rw [ne _ _ (by decide)]; exact s6 k hk⟩, by rw [ne _ _ (by decide)]; exact t1⟩
theorem v_isPeer {V : VV} {x : Int} {n : Nat} (hn : vI V 156 13 = (n : Int)) (hx : w32 x = x) : f_X16_isPeer x V = some (b2i (decide (0 ≤ x) && decide (x < (n : Int)))) := by
  have e : w32 (V 156 13) = (n : Int) := hn
  have e2 : w32 (n : Int) = (n : Int) := by rw [← e]; exact w32_w32 _
  unfold f_X16_isPeer
  rw [e, e2, hx]
  by_cases c1 : x < 0
  · rw [if_pos c1, decide_eq_false (show ¬ 0 ≤ x by omega)]; rfl
  · rw [if_neg c1, decide_eq_true (show 0 ≤ x by omega)]
    by_cases c2 : x < (n : Int)
    · rw [if_pos c2, decide_eq_true c2]; rfl
    · rw [if_neg c2, decide_eq_false c2]; rfl
/-- one byte more goes out -/
theorem v_byteOut {V : VV} {l : List Int} {x y : Int} (h : OutV V l) (hl : l.length < 460) (hx : band x 255 = y) (hy : 0 ≤ y ∧ y < 256) : ∃ V', f_X16_byteOut x V = some V' ∧ OutV V' (l ++ [y]) ∧ FrV m9 V V' ∧ ExV (fun a => a = 188 ∨ a = 156) V V' := by
  obtain ⟨h1, h2, h3⟩ := h
  have e : w32 (V 156 41) = (l.length : Int) := h1
  have hw : w32 (l.length : Int) = (l.length : Int) := w32_j (by omega)
  have k1 : w32 (st2 V 188 l.length y 156 41) = (l.length : Int) := by
    show vI (st2 V 188 l.length y) 156 41 = _
    rw [vI_st2, if_neg (by omega)]; exact h1
  refine ⟨st2 (st2 V 188 l.length y) 156 41 ((l.length : Int) + 1), ?_, ⟨?_, ?_, ?_⟩, (FrV_st (by rfl)).trans (FrV_st (by rfl)), (ExV.st (Or.inl rfl)).trans (ExV.st (Or.inr rfl))⟩
  · unfold f_X16_byteOut
    rw [e, s2_e hw hl, Option.bind_some, hx, k1, p2_e]; rfl
  · rw [vI_st2, if_pos ⟨rfl, rfl⟩, w32_id (by omega) (by omega), List.length_append]; simp
  · rw [List.length_append, List.length_singleton]; omega
  · intro i hi
    rw [List.length_append, List.length_singleton] at hi
    rw [vI_st2, if_neg (by omega), vI_st2]
    by_cases q : i = l.length
    · rw [if_pos ⟨rfl, q⟩, w32_id (by omega) (by omega), q]; simp
    · rw [if_neg (fun z => q z.2), h3 i (by omega)]
      simp [List.getElem?_append, show i < l.length by omega]
