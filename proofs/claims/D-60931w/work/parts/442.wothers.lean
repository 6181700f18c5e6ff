/-! what is so of the other works stays so -/
def hdW (N : Nat) (Y : Ys) (t : Nat) : Prop := yv Y 226 t = 1 ∧ goW N Y t ∧ (t < 12 → 0 ≤ yv Y 229 t) ∧ (12 ≤ t → yv Y 229 t = -1 ∧ yp Y t = t - 12)
section WOTHERS
variable {m al N p q t t' : Nat} {own : Nat → Ky} {sd : Nat → Int} {tm ad ty how r : Int} {w : Wd} {Y Y1 : Ys} {Lb : Nat → List Trm} {key : Ky} {bd : List Int} {vals : Bool}
theorem wOK_hd (h : wOK N own Lb Y t) (hg : yv Y 226 t ≠ 0) : hdW N Y t ∧ kOK own Lb Y t := by
  have e : yv Y 226 t = 1 := by
    rcases h.1 with z | z
    · exact absurd z hg
    · exact z
  have := h.2.2 e
  exact ⟨⟨e, this.1, this.2.1, this.2.2.1⟩, this.2.2.2⟩
theorem hd_ft (h : hdW N Y t) (f : FT t Y Y1) (h6 : yv Y1 226 t = yv Y 226 t) : hdW N Y1 t := by
  unfold hdW goW at *
  rw [h6, f.2.2.2.1.2.1, f.2.2.2.1.2.2, FT_p f]; exact h
theorem wOK_mk (h : hdW N Y t) (hm : ∀ p y, y ∈ wQ (yw Y) p → qWrk y = some t → p = yp Y t ∧ qTyp y = tyS Y t) (hk : kOK own Lb Y t) : wOK N own Lb Y t :=
  ⟨Or.inr h.1, fun p y hy hw => ⟨h.1, hm p y hy hw⟩, fun _ => ⟨h.2.1, h.2.2.1, h.2.2.2, hk⟩⟩
theorem getD_all {L : List Nat} {n : Nat} (hn : 0 < n) (h : ∀ y, y ∈ L → y < n) (j : Nat) : L.getD j 0 < n := by
  rw [List.getD_eq_getElem?_getD]
  by_cases c : j < L.length
  · rw [List.getElem?_eq_getElem c]; exact h _ (List.getElem_mem c)
  · rw [List.getElem?_eq_none (by omega)]; exact hn
theorem qOK_of (h : qOK own Y t) (hv : ∀ a, a = 230 ∨ a = 247 ∨ a = 254 ∨ a = 256 ∨ a = 263 ∨ a = 264 → yv Y1 a t = yv Y a t) (h5 : ∀ i, i < 3 → yv Y1 250 (3 * t + i) = yv Y 250 (3 * t + i)) (hp : yp Y1 t = yp Y t) (hO : qO (yq Y1) t = qO (yq Y) t) (hH : ∀ i, i < 3 → qH (yq Y1) (3 * t + i) = qH (yq Y) (3 * t + i)) (hB : qB (yq Y1) t = qB (yq Y) t) (hL : qL (yq Y1) t = qL (yq Y) t) (hF : qF (yq Y1) t = qF (yq Y) t) : qOK own Y1 t := by
  obtain ⟨q1, q2, q3, q4, q5, q6, q7, q8, q9, q10, q11⟩ := h
  have hj : ∀ j, (qO (yq Y) t).getD j 0 < 3 := getD_all (by omega) (fun y hy => by have := q3.2 y hy; omega)
  unfold qOK
  rw [hv 230 (by omega), hv 247 (by omega), hv 254 (by omega), hv 256 (by omega), hv 263 (by omega), hv 264 (by omega), hp, hO, hB, hL, hF, hH _ (hj _)]
  exact ⟨q1, q2, q3, q4, fun i hi => by rw [h5 i (by omega)]; exact q5 i hi, q6, q7, q8, q9, q10, q11⟩
theorem kOK_ft (h : kOK own Lb Y t') (f : FT t Y Y1) (hne : t' ≠ t) (hr : 0 ≤ yv Y 229 t → t' < 12 → yv Y 229 t' ≠ yv Y 229 t) (h29 : t' < 12 → 0 ≤ yv Y 229 t') : kOK own Lb Y1 t' := by
  have v : ∀ a, 226 ≤ a → a ≤ 264 → a ≠ 250 → a ≠ 252 → yv Y1 a t' = yv Y a t' := fun a z1 z2 z3 z4 => f.2.2.1 a t' (by unfold wrT; omega)
  have v5 : ∀ i, i < 3 → yv Y1 250 (3 * t' + i) = yv Y 250 (3 * t' + i) := fun i z => f.2.2.1 250 _ (by unfold wrT; omega)
  have vp : yp Y1 t' = yp Y t' := by unfold yp; rw [show vI (ys Y1) 228 t' = vI (ys Y) 228 t' from v 228 (by omega) (by omega) (by omega) (by omega)]
  have cn : cnA (yp Y t') t' (yw Y1) = cnA (yp Y t') t' (yw Y) := by rw [cnA_rqv, cnA_rqv, f.1 _ t' hne]
  unfold kOK
  rw [v 227 (by omega) (by omega) (by omega) (by omega), v 230 (by omega) (by omega) (by omega) (by omega), v 242 (by omega) (by omega) (by omega) (by omega), v 241 (by omega) (by omega) (by omega) (by omega), v 243 (by omega) (by omega) (by omega) (by omega), v 244 (by omega) (by omega) (by omega) (by omega), v 245 (by omega) (by omega) (by omega) (by omega), v 246 (by omega) (by omega) (by omega) (by omega), v 247 (by omega) (by omega) (by omega) (by omega), v 248 (by omega) (by omega) (by omega) (by omega), v 229 (by omega) (by omega) (by omega) (by omega), vp, cn]
  rcases h with h | h | h | ⟨h1, h2, h3, h4, h5⟩
  · exact Or.inl h
  · exact Or.inr (Or.inl h)
  · exact Or.inr (Or.inr (Or.inl h))
  · refine Or.inr (Or.inr (Or.inr ⟨h1, h2, ?_, h4, ?_⟩))
    · have := hr
      have h29 := h29 h2
      exact (f.2.2.1 269 (yv Y 229 t').toNat (by unfold wrT; omega)).trans h3
    · rcases h5 with ⟨g1, g2, g3⟩ | ⟨g1, g2⟩
      · exact Or.inl ⟨g1, g2, fun i hi => by rw [v5 i (by omega)]; exact g3 i hi⟩
      · refine Or.inr ⟨qOK_of g1 (fun a z => v a (by omega) (by omega) (by omega) (by omega)) v5 vp (f.2.2.2.2.1 t' hne).2.2.2 (fun i z => f.2.2.2.2.2.2.1 _ (by omega)) (f.2.2.2.2.1 t' hne).2.2.1 (f.2.2.2.2.1 t' hne).1 (f.2.2.2.2.1 t' hne).2.1, g2⟩
theorem ty_ft (f : FT t Y Y1) (hne : t' ≠ t) : tyS Y1 t' = tyS Y t' := by
  unfold tyS
  rw [show yv Y1 230 t' = yv Y 230 t' from f.2.2.1 230 t' (by unfold wrT; omega), f.2.1 t' hne]
/-- the other works -/
theorem wOK_ft (h : wOK N own Lb Y t') (f : FT t Y Y1) (hne : t' ≠ t) (hr : yv Y 226 t' = 1 → 0 ≤ yv Y 229 t → t' < 12 → yv Y 229 t' ≠ yv Y 229 t) : wOK N own Lb Y1 t' := by
  have v : ∀ a, 226 ≤ a → a ≤ 264 → a ≠ 250 → a ≠ 252 → yv Y1 a t' = yv Y a t' := fun a z1 z2 z3 z4 => f.2.2.1 a t' (by unfold wrT; omega)
  have vp : yp Y1 t' = yp Y t' := by unfold yp; rw [show vI (ys Y1) 228 t' = vI (ys Y) 228 t' from v 228 (by omega) (by omega) (by omega) (by omega)]
  have v6 := v 226 (by omega) (by omega) (by omega) (by omega)
  have v8 := v 228 (by omega) (by omega) (by omega) (by omega)
  have v9 := v 229 (by omega) (by omega) (by omega) (by omega)
  refine ⟨by rw [v6]; exact h.1, fun p y hy hw => ?_, fun z => ?_⟩
  · obtain ⟨z, hz, hzw, hzt⟩ := rqv_mem (f.1 p t' hne) hy hw
    obtain ⟨a1, a2, a3⟩ := h.2.1 p z hz hzw
    exact ⟨by rw [v6]; exact a1, by rw [vp]; exact a2, by rw [ty_ft f hne, ← hzt]; exact a3⟩
  · rw [v6] at z
    obtain ⟨a1, a2, a3, a4⟩ := h.2.2 z
    refine ⟨by unfold goW; rw [v8, v9]; exact a1, by rw [v9]; exact a2, by rw [v9, vp]; exact a3, kOK_ft a4 f hne (hr z) a2⟩
end WOTHERS
