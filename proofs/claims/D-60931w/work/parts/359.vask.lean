/-! a request is asked -/
section VASK
variable {V W : VV} {p s : Nat} {R : List Rq} {x y : Rq} {l bd : List Int} {ad ty tk pb : Int} {e q n : Nat}
/-- the body comes behind the head -/
theorem v_ask197 (ho : OutV V l) (hb : ty = 1 ∨ BodyV V bd) (hbl : isBL bd) (hl : l.length + bd.length ≤ 460) (hty : w32 ty = ty) : ∃ U, l_X16_ask_197 (p : Int) ty (s : Int) 0 V = j_X16_ask_229 (p : Int) (s : Int) U ∧ OutV U (l ++ if ty = 1 then [] else bd) ∧ FrS PO V U := by
  by_cases c1 : ty = 1
  · refine ⟨V, ?_, by rw [if_pos c1, List.append_nil]; exact ho, FrS.refl⟩
    unfold l_X16_ask_197
    refine lpN_end (b := fun s' : Int × VV => b_X16_ask_197 (p : Int) ty (s : Int) s'.1 s'.2) (by unfold FU; omega) ?_
    dsimp only
    unfold b_X16_ask_197
    rw [if_pos (by rw [c1])]
  · rw [if_neg c1]
    have hB : BodyV V bd := by
      rcases hb with z | z
      · exact absurd z c1
      · exact z
    have hc : ¬ w32 ty = w32 1 := by rw [hty, w32_1]; exact c1
    obtain ⟨⟨z, U⟩, n2, hn2, ⟨rfl, g1, g2⟩, q2⟩ := lp_inv (b := fun s' : Int × VV => b_X16_ask_197 (p : Int) ty (s : Int) s'.1 s'.2) (fun k s' => s'.1 = (k : Int) ∧ OutV s'.2 (l ++ bd.take k) ∧ FrS PO V s'.2) bd.length
      (by
        rintro k ⟨z, U⟩ hk ⟨rfl, g1, g2⟩
        dsimp only at g1 g2 ⊢
        have hbd := hB.2.1
        have u64 : vI U 156 64 = (bd.length : Int) := by rw [g2.vI (by unfold PO; omega)]; exact hB.1
        have u209 : vI U 209 k = bd.getD k 0 := by rw [g2.vI (by unfold PO; omega)]; exact hB.2.2 k hk
        have hg := isBL_get hbl k
        obtain ⟨U1, c1, c2, -, -⟩ := v_byteOut (x := bd.getD k 0) g1 (by rw [List.length_append, List.length_take]; omega) (bd255 hg) hg
        refine ⟨(((k : Nat) : Int) + 1, U1), ?_, rfl, ?_, g2.trans (byteOut_fr c1)⟩
        · unfold b_X16_ask_197
          rw [if_neg hc, show w32 (U 156 64) = (bd.length : Int) from u64, w32_nn (by omega), w32_nn (by omega), if_pos (by omega), l2_n (by omega) (by decide), Option.bind_some, u209, c1, Option.bind_some]
          rfl
        · dsimp only
          rw [take_s (d := 0) hk, ← List.append_assoc]
          exact c2) FU 0 (0, V) (by omega) (by have := hB.2.1; unfold FU; omega) ⟨rfl, by simpa using ho, FrS.refl⟩
    dsimp only at g1 g2
    refine ⟨U, ?_, by rw [List.take_length] at g1; exact g1, g2⟩
    unfold l_X16_ask_197
    refine q2.trans ?_
    refine lpN_end (b := fun s' : Int × VV => b_X16_ask_197 (p : Int) ty (s : Int) s'.1 s'.2) hn2 ?_
    dsimp only
    unfold b_X16_ask_197
    have u64 : vI U 156 64 = (bd.length : Int) := by rw [g2.vI (by unfold PO; omega)]; exact hB.1
    rw [if_neg hc, show w32 (U 156 64) = (bd.length : Int) from u64, if_neg (by omega)]
/-- what is put together is kept with the request -/
theorem v_ask229 (ho : OutV V l) (hl : l.length ≤ 350) (hs : s < 1280) : ∃ U, j_X16_ask_229 (p : Int) (s : Int) V = j_X16_ask_279 (p : Int) (s : Int) U ∧ vI U 207 s = (l.length : Int) ∧ (∀ i, i < l.length → vI U 208 (350 * s + i) = l.getD i 0) ∧ FrS (fun a i => (a = 207 ∧ i = s) ∨ (a = 208 ∧ 350 * s ≤ i ∧ i < 350 * s + 350)) V U := by
  obtain ⟨o1, o2, o3⟩ := ho
  let V1 := st2 V 207 s (l.length : Int)
  obtain ⟨⟨z, U⟩, n2, hn2, ⟨rfl, g1, g2⟩, q2⟩ := lp_inv (b := fun s' : Int × VV => b_X16_ask_243 (p : Int) (s : Int) s'.1 s'.2) (fun k s' => s'.1 = (k : Int) ∧ (∀ i, i < k → vI s'.2 208 (350 * s + i) = l.getD i 0) ∧ FrS (fun a i => a = 208 ∧ 350 * s ≤ i ∧ i < 350 * s + 350) V1 s'.2) l.length
    (by
      rintro k ⟨z, U⟩ hk ⟨rfl, g1, g2⟩
      dsimp only at g1 g2 ⊢
      have u41 : vI U 156 41 = (l.length : Int) := by
        rw [g2.vI (by omega)]
        show vI (st2 _ _ _ _) _ _ = _
        rw [vI_ne (by omega)]; exact o1
      have u188 : vI U 188 k = l.getD k 0 := by
        rw [g2.vI (by omega)]
        show vI (st2 _ _ _ _) _ _ = _
        rw [vI_ne (by omega)]; exact o3 k hk
      refine ⟨(((k : Nat) : Int) + 1, st2 U 208 (350 * s + k) (l.getD k 0)), ?_, rfl, fun i hi => ?_, g2.trans (FrS_st (by omega))⟩
      · unfold b_X16_ask_243
        rw [show w32 (U 156 41) = (l.length : Int) from u41, w32_nn (by omega), w32_nn (by omega), if_pos (by omega), l2_n (by omega) (by decide), Option.bind_some, c350m, cadd, s2_n (by omega) (by decide), u188]
        rfl
      · dsimp only
        rw [vI_st2]
        by_cases c : i = k
        · rw [if_pos ⟨rfl, by omega⟩, c, ← u188, w32_vI]
        · rw [if_neg (fun z => c (by omega))]; exact g1 i (by omega)) FU 0 (0, V1) (by omega) (by unfold FU; omega) ⟨rfl, fun i hi => by omega, FrS.refl⟩
  dsimp only at g1 g2
  refine ⟨U, ?_, ?_, g1, (FrS_st (Or.inl ⟨rfl, rfl⟩)).trans (g2.mono (fun a i q => Or.inr q))⟩
  · unfold j_X16_ask_229
    rw [show w32 (V 156 41) = (l.length : Int) from o1, s2_n (by omega) (by decide), Option.bind_some]
    unfold l_X16_ask_243
    refine q2.trans ?_
    refine lpN_end (b := fun s' : Int × VV => b_X16_ask_243 (p : Int) (s : Int) s'.1 s'.2) hn2 ?_
    dsimp only
    unfold b_X16_ask_243
    have u41 : vI U 156 41 = (l.length : Int) := by
      rw [g2.vI (by omega)]
      show vI (st2 _ _ _ _) _ _ = _
      rw [vI_ne (by omega)]; exact o1
    rw [show w32 (U 156 41) = (l.length : Int) from u41, if_neg (by omega)]
  · rw [g2.vI (by omega)]
    show vI (st2 _ _ _ _) _ _ = _
    rw [vI_eq rfl, w32_nn (by omega)]
/-- the words of a new request -/
def askM (V : VV) (p s e q nx : Nat) (ad ty tk pb ser : Int) : VV := st2 (st2 (st2 (st2 (st2 (kput (st2 (st2 (st2 (st2 V 197 s 1) 198 s (nx : Int)) 171 p ((nx + 1 : Nat) : Int)) 199 s ad) 200 (5 * s) e q) 201 s ty) 204 s tk) 205 s ser) 206 s pb) 203 s 0
theorem m200 : mA 200 6400 := by refine ⟨?_, ?_, ?_, ?_, ?_⟩ <;> decide
theorem v_ask46 {nx : Nat} (hs : 40 * p ≤ s ∧ s < 40 * p + 40) (hp : p < 32) (he : mA e n) (hq : q + 5 ≤ n) (hn : n ≤ 1000000) (hem : ∀ i, mv e i ≠ 5) (h171 : vI V 171 p = (nx : Int)) (hnx : nx < 2000000000) (htk : tk = -1 ∨ (0 ≤ tk ∧ tk < 44)) : j_X16_ask_46 (p : Int) ad (e : Int) (q : Int) ty tk pb (s : Int) V = (f_X16_head (p : Int) ty (nx : Int) (askM V p s e q nx ad ty tk pb (if tk < 0 then 0 else vI V 231 tk.toNat))).bind fun V4 => l_X16_ask_197 (p : Int) ty (s : Int) 0 V4 := by
  have ne200 : e ≠ 200 := fun z => hem 0 (by rw [z]; rfl)
  obtain ⟨A, hA⟩ : ∃ A, A = st2 (st2 (st2 (st2 V 197 s 1) 198 s (nx : Int)) 171 p ((nx + 1 : Nat) : Int)) 199 s ad := ⟨_, rfl⟩
  have pu := e_put (V := A) (p := 5 * s) (p' := q) m200 (by omega) (by decide) he hq hn (Or.inl (Ne.symm ne200))
  have e1 : (200 : Int) = ((200 : Nat) : Int) := rfl
  unfold j_X16_ask_46 j_X16_ask_157 j_X16_ask_162
  rw [c40m, cadd40, w32_nn (by omega), w32_nn (by omega), if_neg (by omega), s2z_n (by omega) (by decide) (Or.inr rfl), Option.bind_some]
  simp (disch := omega) only [l2_n, s2_n, Option.bind_some, vI_ne, h171, cadd1, c5m]
  rw [← hA, e1, pu, Option.bind_some]
  have rA : ∀ t, vI A 231 t = vI V 231 t := fun t => by
    rw [hA]
    simp (disch := omega) only [vI_ne]
  rcases htk with rfl | h
  · rw [w32_m1, if_pos (by decide), if_pos (by decide)]
    simp (disch := omega) only [l2_n, s2_n, Option.bind_some, vI_ne, vI_eq, vI_kput]
    rw [show vI A 198 s = (nx : Int) by rw [hA]; simp (disch := omega) only [vI_ne, vI_eq, w32_nn]]
    rw [hA]
    rfl
  · have e2 : tk = ((tk.toNat : Nat) : Int) := by omega
    generalize tk.toNat = t at e2
    subst e2
    rw [w32_nn (by omega), if_neg (by omega), if_neg (by omega), if_neg (by omega)]
    simp (disch := omega) only [l2_n, s2_n, Option.bind_some, vI_ne, vI_eq, vI_kput, rA]
    rw [show vI A 198 s = (nx : Int) by rw [hA]; simp (disch := omega) only [vI_ne, vI_eq, w32_nn]]
    rw [hA]
    rfl
end VASK
