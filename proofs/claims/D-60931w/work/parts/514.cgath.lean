/-! requests that have run out, in the class: their numbers -/
section CGATH
variable {M M1 : MM} {m al N p i : Nat} {pa : Nat → Nat} {own : Nat → Ky} {sd ps sn pu rf : Nat → Int} {tm : Int} {lf : Nat → Nat} {b : Nat × Nat} {w : Wd} {h : Gh}
theorem ov_succ {Q : List Rq} (hi : i < Q.length) : ovQ tm (Q.take (i + 1)) = ovQ tm (Q.take i) ++ if qDdl (Q.getD i q0) ≤ tm then [Q.getD i q0] else [] := by
  unfold ovQ
  rw [List.take_succ, List.filter_append, List.getD_eq_getElem?_getD, List.getElem?_eq_getElem hi]
  congr 1
  show [Q[i]].filter _ = _
  rw [List.filter_cons]
  by_cases c : qDdl Q[i] ≤ tm
  · rw [if_pos (decide_eq_true c)]; show _ = if qDdl Q[i] ≤ tm then [Q[i]] else []; rw [if_pos c]; rfl
  · rw [if_neg (by rw [decide_eq_false c]; decide)]; show _ = if qDdl Q[i] ≤ tm then [Q[i]] else []; rw [if_neg c]; rfl
theorem gdQ_app {l m : List Rq} {i : Nat} : (l ++ m).getD i q0 = if i < l.length then l.getD i q0 else m.getD (i - l.length) q0 := by
  rw [List.getD_eq_getElem?_getD, List.getD_eq_getElem?_getD, List.getD_eq_getElem?_getD, List.getElem?_append]
  split <;> rfl
theorem c_gather (hC : CPs M m al N pa own sd ps sn pu rf tm lf b w h) (hp : p < N) (hL : (wQ w p).length ≤ 40) :
    ∃ M', f_X17_runOut ((pa p : Nat) : Int) M = l_X17_runOut_66 ((pa p : Nat) : Int) (((ovQ tm (wQ w p)).length : Nat) : Int) 0 M' ∧ CPs M' m al N pa own sd ps sn pu rf tm lf b w h ∧ (∀ j, j < (ovQ tm (wQ w p)).length → rI M' 46 j = qNum ((ovQ tm (wQ w p)).getD j q0)) ∧ FK (fun z => z == 15) M M' := by
  have hu := hC.2.2.2.2.1.1
  have m46 : mo M 46 = 15 := (BdS_mo hC.1.1).2.2.1
  have cb : ∀ U, Ex (fun q => q = 46) M U → CPs U m al N pa own sd ps sn pu rf tm lf b w h ∧ FK (fun z => z == 15) M U := fun U x => by
    have f : FK (fun z => z == 15) M U := FK_ex x (fun q _ hq => by rw [hq, m46]; rfl)
    have := cp_w6 (d1 := 0) (d2 := 0) hC f (by decide) (BoC_fk f hu (by decide) hC.1) (by rw [x.nN]; exact Nat.le_refl _) (by rw [x.nU]; exact Nat.le_refl _)
    exact ⟨cp_b this (Nat.le_refl _) (Nat.le_refl _), f⟩
  have stp : ∀ j (s : Int × Int × MM), j < (wQ w p).length → (s.2.1 = (j : Int) ∧ Ex (fun q => q = 46) M s.2.2 ∧ s.1 = (((ovQ tm ((wQ w p).take j)).length : Nat) : Int) ∧ ∀ x, x < (ovQ tm ((wQ w p).take j)).length → rI s.2.2 46 x = qNum ((ovQ tm ((wQ w p).take j)).getD x q0)) → ∃ s', b_X17_runOut_4 ((pa p : Nat) : Int) s.1 s.2.1 s.2.2 = some (.inl s') ∧ (s'.2.1 = ((j + 1 : Nat) : Int) ∧ Ex (fun q => q = 46) M s'.2.2 ∧ s'.1 = (((ovQ tm ((wQ w p).take (j + 1))).length : Nat) : Int) ∧ ∀ x, x < (ovQ tm ((wQ w p).take (j + 1))).length → rI s'.2.2 46 x = qNum ((ovQ tm ((wQ w p).take (j + 1))).getD x q0)) := by
    rintro j ⟨c, z, U⟩ hj ⟨rfl, f1, rfl, f3⟩
    dsimp only at f1 f3 ⊢
    obtain ⟨⟨c1, c2, c3, c4, c5, c6, c7, c8, c9⟩, _⟩ := cb U f1
    obtain ⟨h1, h2, h3, h4, h5, h6, h7, h8, h9⟩ := c6.2.2.1 p hp
    have pe := (c5.2.2 p hp).1
    have rq := h9 j hj
    have ir := (h6 j (by omega)).2
    have kr : (kd U ((h.2.2.2.2 p).2 j)).1 = 24 := by rw [ir.1]
    have k18 : (kd U 18).1 = 6 := by rw [c1.1.1]
    have hlen : (ovQ tm ((wQ w p).take j)).length ≤ j := by
      have := List.length_filter_le (fun y => decide (qDdl y ≤ tm)) ((wQ w p).take j)
      rw [List.length_take] at this
      unfold ovQ
      omega
    have lst := ov_succ (tm := tm) hj
    unfold b_X17_runOut_4
    rw [gfi_e h1, Option.bind_some, h3, w32_nn (by omega), w32_nn (by omega), if_pos (by omega), gfr_e h1, Option.bind_some, pe.2.2.1.2.2.2.2.2.1, lar_n h2 (by decide) (by omega) (by decide), Option.bind_some, (h6 j (by omega)).1, gfi_e kr, Option.bind_some, gfr_e h1, Option.bind_some, pe.2.2.1.1, gfr_e k18, Option.bind_some, c1.1.2.2.1.1, gfi_e (by rw [c2.1.1]), Option.bind_some, c2.2.2.1, w32_rI, rq.2.2.2.1]
    rw [show w32 tm = tm by rw [← c2.2.2.1]; exact w32_rI]
    by_cases c : tm < qDdl ((wQ w p).getD j q0)
    · rw [if_pos c]
      rw [if_neg (by omega), List.append_nil] at lst
      refine ⟨(_, (j : Int) + 1, U), rfl, by dsimp only; omega, f1, by rw [lst], by rw [lst]; exact f3⟩
    · rw [if_neg c]
      rw [if_pos (by omega)] at lst
      have wn : w32 (qNum ((wQ w p).getD j q0)) = qNum ((wQ w p).getD j q0) := by rw [← rq.1]; exact w32_rI
      refine ⟨((((ovQ tm ((wQ w p).take j)).length : Nat) : Int) + 1, (j : Int) + 1, sI U 46 (ovQ tm ((wQ w p).take j)).length (qNum ((wQ w p).getD j q0))), ?_, by dsimp only; omega, f1.trans (Ex.st rfl), ?_, ?_⟩
      · rw [Option.bind_some, gfr_e k18, Option.bind_some, c1.1.2.2.1.2.2.2.2.2.2.2.2.2.2.2, Option.bind_some, lar_n h2 (by decide) (by omega) (by decide), Option.bind_some, (h6 j (by omega)).1, gfi_e kr, Option.bind_some, rq.1, sai_e (k := 256) (l := 40) (j := (ovQ tm ((wQ w p).take j)).length) c1.1.2.2.2.2.1 (by decide) (by decide) (w32_nn (by omega)) (by omega), Option.bind_some]
        rfl
      · dsimp only
        rw [lst, List.length_append]; rfl
      · dsimp only
        intro x hx
        rw [lst, List.length_append] at hx
        have hx : x < (ovQ tm ((wQ w p).take j)).length + 1 := hx
        rw [lst, gdQ_app]
        by_cases e : x < (ovQ tm ((wQ w p).take j)).length
        · rw [if_pos e, rI_ne (by omega)]; exact f3 x e
        · have e' : x = (ovQ tm ((wQ w p).take j)).length := by omega
          rw [if_neg e, e', rI_eq rfl, wn, Nat.sub_self]; rfl
  obtain ⟨⟨c, z, M'⟩, n2, hn2, ⟨rfl, g1, rfl, g3⟩, q2⟩ := lp_inv (b := fun s : Int × Int × MM => b_X17_runOut_4 ((pa p : Nat) : Int) s.1 s.2.1 s.2.2) (fun j s => s.2.1 = (j : Int) ∧ Ex (fun q => q = 46) M s.2.2 ∧ s.1 = (((ovQ tm ((wQ w p).take j)).length : Nat) : Int) ∧ ∀ x, x < (ovQ tm ((wQ w p).take j)).length → rI s.2.2 46 x = qNum ((ovQ tm ((wQ w p).take j)).getD x q0)) (wQ w p).length stp FU 0 (0, 0, M) (by omega) (by unfold FU; omega) ⟨rfl, .refl, by simp [ovQ], by simp [ovQ]⟩
  dsimp only at g1 g3
  rw [List.take_length] at g3 q2
  obtain ⟨d1, d2⟩ := cb M' g1
  refine ⟨M', ?_, d1, g3, d2⟩
  unfold f_X17_runOut l_X17_runOut_4
  refine q2.trans ?_
  refine lpN_end (b := fun s : Int × Int × MM => b_X17_runOut_4 ((pa p : Nat) : Int) s.1 s.2.1 s.2.2) hn2 ?_
  dsimp only
  obtain ⟨h1, h2, h3, _⟩ := d1.2.2.2.2.2.1.2.2.1 p hp
  unfold b_X17_runOut_4
  rw [gfi_e h1, Option.bind_some, h3, if_neg (by omega)]
  rfl
end CGATH
