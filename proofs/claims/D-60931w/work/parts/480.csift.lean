section CSIFT
variable {M M1 : MM} {Q n pk f e : Nat} {L tl : List It} {F : List Bool} {l : List Int} {x : It}
/-- those that stay -/
theorem c_sift (hS : AsS M Q) (hL : AsL M Q L) (hk : okL L) (hF : F.length = L.length) (hF2 : ∀ i, i < F.length → rI M (Q + 9) i = b2i (F.getD i false)) : ∃ M', f_X31_sift (Q : Int) M = some M' ∧ AsL M' Q (sftL L F) ∧ Ex (A6 Q) M M' ∧ ∀ i, i ≠ 13 → rI M' Q i = rI M Q i := by
  have l2 := hL.2.1
  have loop : ∀ (d j fu : Nat) (U : MM), d + j = L.length → d < fu → Ex (fun z => z = Q + 6 ∨ z = Q + 7 ∨ z = Q + 8) M U → (∀ i, i < (sftL (L.take j) (F.take j)).length → rI U (Q + 6) i = ((sftL (L.take j) (F.take j)).getD i it0).1 ∧ rI U (Q + 7) i = ((sftL (L.take j) (F.take j)).getD i it0).2.1 ∧ rI U (Q + 8) i = ((sftL (L.take j) (F.take j)).getD i it0).2.2) → (∀ i, j ≤ i → i < L.length → rI U (Q + 6) i = (L.getD i it0).1 ∧ rI U (Q + 7) i = (L.getD i it0).2.1 ∧ rI U (Q + 8) i = (L.getD i it0).2.2) → ∃ M', lpN (fun s : Int × Int × MM => b_X31_sift_4 (Q : Int) s.1 s.2.1 s.2.2) fu ((((sftL (L.take j) (F.take j)).length : Nat) : Int), (j : Int), U) = some M' ∧ AsL M' Q (sftL L F) ∧ Ex (A6 Q) M M' ∧ ∀ i, i ≠ 13 → rI M' Q i = rI M Q i := by
    intro d
    induction d with
    | zero =>
      intro j fu U hj hfu hE h1 h2
      have : j = L.length := by omega
      subst this
      have t1 : L.take L.length = L := List.take_length
      have t2 : F.take L.length = F := by rw [← hF]; exact List.take_length
      rw [t1, t2] at h1 ⊢
      have S1 : AsS U Q := hS.ex hE
      have sl : (sftL L F).length ≤ L.length := by have := sft_len (L := L) (F := F) L.length; rw [t1, t2] at this; exact this
      refine ⟨sI U Q 13 ((sftL L F).length : Int), lpN_end (by omega) ?_, ⟨by rw [rI_eq rfl, w32_nn (by omega)], by omega, fun i hi => by rw [rI_ne (by omega), rI_ne (by omega), rI_ne (by omega)]; exact h1 i hi⟩, (hE.mono (fun z hz => Or.inr hz)).trans (Ex.st (A := A6 Q) (Or.inl rfl)), fun i z => by rw [rI_ne (by omega)]; exact hE.rI (by omega) i⟩
      show b_X31_sift_4 (Q : Int) ((sftL L F).length : Int) (L.length : Int) U = _
      unfold b_X31_sift_4
      rw [gfi_e (by rw [S1.1]), hE.rI (by omega), hL.1, Option.bind_some, if_neg (by omega), pfi_e (by rw [S1.1]), Option.bind_some]
    | succ d ih =>
      intro j fu U hj hfu hE h1 h2
      obtain ⟨fu', rfl⟩ : ∃ f, fu = f + 1 := ⟨fu - 1, by omega⟩
      have S1 : AsS U Q := hS.ex hE
      have k31 : (kd U Q).1 = 31 := by rw [S1.1]
      obtain ⟨k, hkk⟩ : ∃ k, k = (sftL (L.take j) (F.take j)).length := ⟨_, rfl⟩
      have kj : k ≤ j := by rw [hkk]; exact sft_len j
      have s1 := sft_s (L := L) (F := F) (k := j) (by omega) (by omega)
      obtain ⟨g1, g2, g3⟩ := h2 j (Nat.le_refl _) (by omega)
      have fl : rI U (Q + 9) j = b2i (F.getD j false) := by rw [hE.rI (by omega)]; exact hF2 j (by omega)
      have head : b_X31_sift_4 (Q : Int) (k : Int) (j : Int) U = if F.getD j false = true then (some (.inl (((k + 1 : Nat) : Int), ((j + 1 : Nat) : Int), sI (sI (sI U (Q + 6) k (L.getD j it0).1) (Q + 7) k (L.getD j it0).2.1) (Q + 8) k (L.getD j it0).2.2)) : Option ((Int × Int × MM) ⊕ MM)) else some (.inl ((k : Int), ((j + 1 : Nat) : Int), U)) := by
        unfold b_X31_sift_4 j_X31_sift_63
        rw [gfi_e k31, hE.rI (by omega), hL.1, Option.bind_some, w32_nn (by omega), w32_nn (by omega), if_pos (by omega), gfr_e k31, S1.2.1.2.2.2.2.2.2.2.2.1, Option.bind_some, laz_e (k := 754) (l := 200) (j := j) S1.2.2.1.2.2.2.2.2.2.2.2 (by decide) (by decide) (w32_nn (by omega)) (by omega), fl, Option.bind_some, w32_b2i]
        cases hb : F.getD j false with
        | false => rw [if_pos (by decide), if_neg (by decide)]; rfl
        | true =>
          rw [if_neg (by decide), if_pos rfl, gfr_e k31, S1.2.1.2.2.2.2.2.1, Option.bind_some, Option.bind_some, lai_e (k := 704) (l := 200) (j := j) S1.2.2.1.2.2.2.2.2.1 (by decide) (by decide) (w32_nn (by omega)) (by omega), g1, Option.bind_some, sai_e (k := 704) (l := 200) (j := k) S1.2.2.1.2.2.2.2.2.1 (by decide) (by decide) (w32_nn (by omega)) (by omega), Option.bind_some, gfr_e (by rw [kd_sI]; exact k31), rR_sI, S1.2.1.2.2.2.2.2.2.1, Option.bind_some, Option.bind_some, lai_e (k := 720) (l := 200) (j := j) (show kd (sI U (Q + 6) k (L.getD j it0).1) (Q + 7) = (720, 200) from S1.2.2.1.2.2.2.2.2.2.1) (by decide) (by decide) (w32_nn (by omega)) (by omega), rI_ne (by omega), g2, Option.bind_some, sai_e (k := 720) (l := 200) (j := k) (show kd (sI U (Q + 6) k (L.getD j it0).1) (Q + 7) = (720, 200) from S1.2.2.1.2.2.2.2.2.2.1) (by decide) (by decide) (w32_nn (by omega)) (by omega), Option.bind_some, gfr_e (by rw [kd_sI, kd_sI]; exact k31), rR_sI, rR_sI, S1.2.1.2.2.2.2.2.2.2.1, Option.bind_some, Option.bind_some, lai_e (k := 736) (l := 200) (j := j) (show kd (sI (sI U (Q + 6) k (L.getD j it0).1) (Q + 7) k (L.getD j it0).2.1) (Q + 8) = (736, 200) from S1.2.2.1.2.2.2.2.2.2.2.1) (by decide) (by decide) (w32_nn (by omega)) (by omega), rI_ne (by omega), rI_ne (by omega), g3, Option.bind_some, sai_e (k := 736) (l := 200) (j := k) (show kd (sI (sI U (Q + 6) k (L.getD j it0).1) (Q + 7) k (L.getD j it0).2.1) (Q + 8) = (736, 200) from S1.2.2.1.2.2.2.2.2.2.2.1) (by decide) (by decide) (w32_nn (by omega)) (by omega), Option.bind_some]
          rfl
      obtain ⟨r1, r2, r3⟩ := okL_rg hk (show j < L.length by omega)
      rw [← hkk]
      cases hb : F.getD j false with
      | false =>
        rw [hb, if_neg (by decide)] at head
        have es : sftL (L.take (j + 1)) (F.take (j + 1)) = sftL (L.take j) (F.take j) := by rw [s1, hb, if_neg (by decide), List.append_nil]
        obtain ⟨M', q1, q2⟩ := ih (j + 1) fu' U (by omega) (by omega) hE (by rw [es]; exact h1) (fun i z1 z2 => h2 i (by omega) z2)
        rw [es, ← hkk] at q1
        refine ⟨M', ?_, q2⟩
        rw [lpN_cnt (b := fun s : Int × Int × MM => b_X31_sift_4 (Q : Int) s.1 s.2.1 s.2.2) (s := ((k : Int), (j : Int), U)) head]
        exact q1
      | true =>
        rw [hb, if_pos rfl] at head
        have es : sftL (L.take (j + 1)) (F.take (j + 1)) = sftL (L.take j) (F.take j) ++ [L.getD j it0] := by rw [s1, hb, if_pos rfl]
        have el : (sftL (L.take (j + 1)) (F.take (j + 1))).length = k + 1 := by rw [es, List.length_append, ← hkk]; rfl
        obtain ⟨M', q1, q2⟩ := ih (j + 1) fu' (sI (sI (sI U (Q + 6) k (L.getD j it0).1) (Q + 7) k (L.getD j it0).2.1) (Q + 8) k (L.getD j it0).2.2) (by omega) (by omega) (hE.trans (((Ex.st (A := fun z => z = Q + 6 ∨ z = Q + 7 ∨ z = Q + 8) (Or.inl rfl)).trans (Ex.st (A := fun z => z = Q + 6 ∨ z = Q + 7 ∨ z = Q + 8) (Or.inr (Or.inl rfl)))).trans (Ex.st (A := fun z => z = Q + 6 ∨ z = Q + 7 ∨ z = Q + 8) (Or.inr (Or.inr rfl))))) (fun i hi => by
          rw [el] at hi
          rw [rI_ne (show ¬ (Q + 6 = Q + 8 ∧ _) by omega), rI_ne (show ¬ (Q + 6 = Q + 7 ∧ _) by omega), rI_ne (show ¬ (Q + 7 = Q + 8 ∧ _) by omega), es]
          by_cases c : i = k
          · have ge : (sftL (L.take j) (F.take j) ++ [L.getD j it0]).getD k it0 = L.getD j it0 := by
              rw [List.getD_eq_getElem?_getD, List.getElem?_append_right (by omega), ← hkk, Nat.sub_self]; rfl
            rw [c, rI_eq rfl, rI_eq rfl, rI_eq rfl, w32s (by omega), w32s (by omega), w32s (by omega), ge]
            exact ⟨rfl, rfl, rfl⟩
          · rw [rI_ne (fun z => c z.2), rI_ne (fun z => c z.2), rI_ne (show ¬ (Q + 7 = Q + 6 ∧ _) by omega), rI_ne (fun z => c z.2), rI_ne (show ¬ (Q + 8 = Q + 7 ∧ _) by omega), rI_ne (show ¬ (Q + 8 = Q + 6 ∧ _) by omega), List.getD_eq_getElem?_getD, List.getElem?_append_left (by omega), ← List.getD_eq_getElem?_getD]
            exact h1 i (by omega)) (fun i z1 z2 => by
          rw [rI_ne (by omega), rI_ne (by omega), rI_ne (by omega), rI_ne (by omega), rI_ne (by omega), rI_ne (by omega), rI_ne (by omega), rI_ne (by omega), rI_ne (by omega)]
          exact h2 i (by omega) z2)
        rw [el] at q1
        refine ⟨M', ?_, q2⟩
        rw [lpN_cnt (b := fun s : Int × Int × MM => b_X31_sift_4 (Q : Int) s.1 s.2.1 s.2.2) (s := ((k : Int), (j : Int), U)) head]
        exact q1
  have := loop L.length 0 FU M (by omega) (by unfold FU; omega) .refl (fun i hi => by simp [sftL] at hi) (fun i _ hi => hL.2.2 i hi)
  exact this
end CSIFT
section CFIN
variable {S : Nat → Bool} {M M1 M2 : MM} {m al N p t nb n Q : Nat} {pa tk : Nat → Nat} {own : Nat → Ky} {sd ps sn pu rf : Nat → Int} {tm how : Int} {lf : Nat → Nat} {b0 : Nat × Nat} {h : Gh} {eg : EG} {pb as : Nat → Option Nat} {mn sto : Nat → Int} {fa : Nat → Nat} {Y : Ys} {L : List It}
/-- ints of a query's cells are nothing to the rest -/
theorem CB_14 {Z : Nat → Prop} (hC : CB M m al N pa own sd ps sn pu rf tm lf b0 eg tk pb as nb mn fa Y h) (hS : AsS M Q) (hx : Ex Z M M1) (hZ : ∀ z, Z z → AQs Q z) : CB M1 m al N pa own sd ps sn pu rf tm lf b0 eg tk pb as nb mn fa Y h ∧ FK (fun z => z == 14) M M1 := by
  obtain ⟨hP, hL, hW, hT⟩ := hC
  have f : FK (fun z => z == 14) M M1 := FK_ex hx (fun z _ hz => by rw [AQ_mo hS (hZ z hz)]; rfl)
  exact ⟨⟨cp_11 hP f (by decide) ⟨hx.nN, hx.nU⟩, LksC_fk f (by decide) hL, Wks_fk hL f (by decide) hW, Tks_fk hL.1 f (by decide) hT⟩, f⟩
theorem be3_n (L : List It) : (L.flatMap be3).length = L.length * 3 := by rw [be3_flat]; omega
/-- a query ends: its list, the best first -/
theorem c_finish (hC : CB M m al N pa own sd ps sn pu rf tm lf b0 eg tk pb as nb mn fa Y h) (hS : AsS M Q) (hL : AsL M Q (qL (yq Y) t)) (hk : okL (qL (yq Y) t)) (hrec : recY nb Y) (hh : hdW N Y t) (ht : t < 12) (hlf : lf t + 1 < 2147483648) (hk3 : yv Y 227 t = 3) :
    ∃ M' fa', f_X31_finish (Q : Int) ((wa pa t : Nat) : Int) M = some M' ∧ CB M' m al N pa own sd ps sn pu rf tm (fup lf t (lf t + 1)) (b0.1 + 1, b0.2 + 180) eg tk pb as nb (fup mn (yv Y 229 t).toNat ((((srt rkM (qL (yq Y) t)).take 60).length : Nat) : Int)) fa' (rnkY t Y) h ∧ ∃ U, Ex (RA (Q + 10)) M U ∧ FK (fun z => z == 11 || z == 12) U M' := by
  obtain ⟨L, hL0⟩ : ∃ L, L = qL (yq Y) t := ⟨_, rfl⟩
  rw [← hL0] at hL hk
  have hgo : yv Y 226 t ≠ 0 := by rw [hh.1]; decide
  obtain ⟨q1, q2, q3⟩ := hrec.2 t ht hgo
  obtain ⟨r, hr⟩ : ∃ r : Nat, yv Y 229 t = (r : Int) := ⟨(yv Y 229 t).toNat, by omega⟩
  have hr' : vI (ys Y) 229 t = (r : Int) := hr
  have er : (yv Y 229 t).toNat = r := by omega
  have rnb : r < nb := by omega
  rw [er, hk3] at q2
  rw [er]
  have l2 := hL.2.1
  have k31 : (kd M Q).1 = 31 := by rw [hS.1]
  have rk17 : rR M Q 17 = ((Q + 10 : Nat) : Int) := hS.2.1.2.2.2.2.2.2.2.2.2.1
  obtain ⟨M1, b1, b2, b3⟩ := c_rkbegin hS.2.2.2.1.1
  -- all come to the ranking
  have nd := okL_rk hk
  obtain ⟨g, hg⟩ : ∃ g : List It → It → List It, g = fun acc x => (insM rkM x acc).take 60 := ⟨_, rfl⟩
  have fold : ∀ j, (L.take j).foldl g [] = (srt rkM (L.take j)).take 60 := fun j => by rw [hg]; exact srt_take rkM 60 _
  have srtj : ∀ j, SrtM rkM ((L.take j).foldl g []) := fun j => by
    rw [fold]
    exact (srt_srt (nd.sublist ((List.take_sublist j L).map _))).sublist (List.take_sublist _ _)
  have memj : ∀ j y, y ∈ (L.take j).foldl g [] → okR y := fun j y hy => by
    rw [fold] at hy
    exact hk.2.2 y (List.mem_of_mem_take ((srt_perm rkM _).mem_iff.mp (List.mem_of_mem_take hy)))
  have RAQ : ∀ z, RA (Q + 10) z → AQs Q z := fun z hz => by unfold RA at hz; unfold AQs; omega
  have add : ∀ (d j fu : Nat) (U : MM), d + j = L.length → d < fu → RkC U (Q + 10) 60 ((L.take j).foldl g []) → Ex (RA (Q + 10)) M U → ∃ U', lpN (fun s : Int × MM => b_X31_finish_9 (Q : Int) ((wa pa t : Nat) : Int) s.1 s.2) fu ((j : Int), U) = j_X31_finish_48 (Q : Int) ((wa pa t : Nat) : Int) U' ∧ RkC U' (Q + 10) 60 (L.foldl g []) ∧ Ex (RA (Q + 10)) M U' := by
    intro d
    induction d with
    | zero =>
      intro j fu U hj hfu hU hE
      have : j = L.length := by omega
      subst this
      rw [List.take_length] at hU
      refine ⟨U, lpN_end (by omega) ?_, hU, hE⟩
      show b_X31_finish_9 (Q : Int) ((wa pa t : Nat) : Int) (L.length : Int) U = _
      unfold b_X31_finish_9
      rw [gfi_e (by rw [hE.kd]; exact k31), hE.rI (by unfold RA; omega), hL.1, Option.bind_some, if_neg (by omega)]
    | succ d ih =>
      intro j fu U hj hfu hU hE
      obtain ⟨fu', rfl⟩ : ∃ f, fu = f + 1 := ⟨fu - 1, by omega⟩
      obtain ⟨x, hx⟩ : ∃ x, x = L.getD j it0 := ⟨_, rfl⟩
      have xo : okR x := by rw [hx]; exact okL_rg hk (by omega)
      obtain ⟨e1, e2, e3⟩ := hL.2.2 j (by omega)
      rw [← hx] at e1 e2 e3
      obtain ⟨U1, r1, r2, r3⟩ := c_rkadd hU (by omega) xo (memj j) (srtj j)
      have es : (insM rkM x ((L.take j).foldl g [])).take 60 = (L.take (j + 1)).foldl g [] := by
        have tk1 : L.take (j + 1) = L.take j ++ [x] := by rw [List.take_succ, List.getElem?_eq_getElem (show j < L.length by omega), hx, gd_get (show j < L.length by omega)]; rfl
        rw [tk1, List.foldl_append, hg]
        rfl
      rw [es] at r2
      obtain ⟨U', s1, s2, s3⟩ := ih (j + 1) fu' U1 (by omega) (by omega) r2 (hE.trans r3)
      refine ⟨U', ?_, s2, s3⟩
      rw [lpN_cnt (b := fun s : Int × MM => b_X31_finish_9 (Q : Int) ((wa pa t : Nat) : Int) s.1 s.2) (s := ((j : Int), U)) (s' := (((j + 1 : Nat) : Int), U1))]
      · exact s1
      · show b_X31_finish_9 (Q : Int) ((wa pa t : Nat) : Int) (j : Int) U = _
        have S1 : AsS U Q := hS.ex hE
        have k31U : (kd U Q).1 = 31 := by rw [S1.1]
        unfold b_X31_finish_9
        rw [gfi_e k31U, hE.rI (by unfold RA; omega), hL.1, Option.bind_some, w32_nn (by omega), w32_nn (by omega), if_pos (by omega), gfr_e k31U, S1.2.1.2.2.2.2.2.2.2.2.2.1, Option.bind_some, gfr_e k31U, S1.2.1.2.2.2.2.2.1, Option.bind_some, lai_e (k := 704) (l := 200) (j := j) S1.2.2.1.2.2.2.2.2.1 (by decide) (by decide) (w32_nn (by omega)) (by omega), hE.rI (by unfold RA; omega), e1, Option.bind_some, gfr_e k31U, S1.2.1.2.2.2.2.2.2.1, Option.bind_some, lai_e (k := 720) (l := 200) (j := j) S1.2.2.1.2.2.2.2.2.2.1 (by decide) (by decide) (w32_nn (by omega)) (by omega), hE.rI (by unfold RA; omega), e2, Option.bind_some, gfr_e k31U, S1.2.1.2.2.2.2.2.2.2.1, Option.bind_some, lai_e (k := 736) (l := 200) (j := j) S1.2.2.1.2.2.2.2.2.2.2.1 (by decide) (by decide) (w32_nn (by omega)) (by omega), hE.rI (by unfold RA; omega), e3, Option.bind_some, ck_e hU.1.1, r1, Option.bind_some]
        rfl
  obtain ⟨U, s1, s2, s3⟩ := add L.length 0 FU M1 (by omega) (by unfold FU; omega) b2 b3
  obtain ⟨T, hT⟩ : ∃ T, T = (srt rkM L).take 60 := ⟨_, rfl⟩
  have eT : L.foldl g [] = T := by have := fold L.length; rw [List.take_length] at this; rw [this, hT]
  rw [eT] at s2
  have T60 : T.length ≤ 60 := by rw [hT, List.length_take]; omega
  obtain ⟨CU, fU⟩ := CB_14 hC hS s3 RAQ
  have huU := CU.2.1.1
  have SU : AsS U Q := hS.ex s3
  obtain ⟨w1, _⟩ := CU.2.1.2.2.1 t (by omega)
  obtain ⟨g1, g2, _⟩ := (CU.2.2.1 t (by omega)).2.2.2 hgo
  have g2 : rR U (wa pa t) 4 = ((tk r : Nat) : Int) := by rw [g2, if_neg (by omega), hr']; rfl
  have tc := CU.2.2.2.1 r rnb
  have k26 : (kd U (tk r)).1 = 26 := by rw [tc.1]
  have ltk : tk r < nN U := huU.lt (by rw [k26]; decide)
  obtain ⟨e1, e2, e3, e4, e5⟩ := c_tell0 (M := U) (n := T.length) (wd := 3) k26 (by omega) ltk
  obtain ⟨A, hA⟩ : ∃ A, A = nN U := ⟨_, rfl⟩
  obtain ⟨MT, hMT⟩ : ∃ MT, MT = tellM U (tk r) T.length 3 := ⟨_, rfl⟩
  rw [← hMT] at e1 e2 e3 e4 e5
  rw [← hA] at e5
  have t6 : rR MT (tk r) 6 = (A : Int) := by
    rw [hMT, hA]
    unfold tellM
    rw [rR_sR, if_pos ⟨rfl, rfl⟩]
  have hlQ := AsS_lt huU SU
  have mtk : mo U (tk r) = 11 := mo_cl1 k26 (by decide) (by decide)
  have ntk : ∀ z, AQs Q z → z ≠ tk r := fun z hz e => by have := AQ_mo SU hz; rw [e, mtk] at this; exact absurd this (by decide)
  have hltw := WlS_lt huU w1
  have nwa : wa pa t ≠ tk r := fun e => by have := w1.1; rw [e, k26] at this; exact absurd this (by decide)
  -- what a state of the filling is like
  have facts : ∀ W, ExC (fun z => z = A) MT W → (kd W Q).1 = 31 ∧ rR W Q 17 = ((Q + 10 : Nat) : Int) ∧ RkC W (Q + 10) 60 T ∧ (kd W (wa pa t)).1 = 11 ∧ rR W (wa pa t) 4 = ((tk r : Nat) : Int) ∧ (kd W (tk r)).1 = 26 ∧ rR W (tk r) 6 = (A : Int) ∧ kd W A = (528, T.length * 3) := fun W hx => by
    have xW : ExA (fun z => z = tk r) U W := e2.trC hx (fun z hz e => by omega)
    have SW : AsS W Q := SU.exa xW huU (fun z hz => ntk z hz)
    have I : ∀ j i, j ≤ 30 → rI W (Q + j) i = rI U (Q + j) i := fun j i hj => xW.rI (by omega) (ntk _ ⟨by omega, by omega⟩) i
    refine ⟨by rw [SW.1], SW.2.1.2.2.2.2.2.2.2.2.2.1, ⟨SW.2.2.2.1.1, by rw [I 10 3 (by omega)]; exact s2.2.1, s2.2.2.1, fun i hi => ?_⟩, by rw [xW.kd (by omega)]; exact w1.1, by rw [xW.rR (by omega) nwa]; exact g2, by rw [xW.kd ltk]; exact k26, by rw [hx.rR (by omega)]; exact t6, by rw [hx.kd]; exact e5⟩
    rw [← s2.2.2.2 i hi]
    unfold gRk
    rw [show Q + 10 + 1 = Q + 11 from rfl, show Q + 10 + 2 = Q + 12 from rfl, show Q + 10 + 3 = Q + 13 from rfl, I 11 i (by omega), I 12 i (by omega), I 13 i (by omega)]
  have fill : ∀ (d j fu : Nat) (W : MM), d + j = T.length → d < fu → ExC (fun z => z = A) MT W → AH W A ((T.take j).flatMap be3) → ∃ W', lpN (fun s : Int × MM => b_X31_finish_65 (Q : Int) ((wa pa t : Nat) : Int) s.1 s.2) fu ((j : Int), W) = ((ck 11 ((wa pa t : Nat) : Int) W' <| (f_X11_end ((wa pa t : Nat) : Int) 1 W').bind fun M1 => some M1) : Option MM) ∧ ExC (fun z => z = A) MT W' ∧ AH W' A (T.flatMap be3) := by
    intro d
    induction d with
    | zero =>
      intro j fu W hj hfu hx hAH
      have : j = T.length := by omega
      subst this
      rw [List.take_length] at hAH
      obtain ⟨f1, f2, f3, f4, f5, f6, f7, f8⟩ := facts W hx
      refine ⟨W, lpN_end (by omega) ?_, hx, hAH⟩
      show b_X31_finish_65 (Q : Int) ((wa pa t : Nat) : Int) (T.length : Int) W = _
      unfold b_X31_finish_65
      rw [gfr_e f1, f2, Option.bind_some, gfi_e f3.1.1, f3.2.1, Option.bind_some, if_neg (by omega)]
    | succ d ih =>
      intro j fu W hj hfu hx hAH
      obtain ⟨fu', rfl⟩ : ∃ f, fu = f + 1 := ⟨fu - 1, by omega⟩
      obtain ⟨x, hx0⟩ : ∃ x, x = T.getD j it0 := ⟨_, rfl⟩
      have xo : okR x := by rw [hx0]; exact memj L.length _ (by rw [List.take_length, eT]; exact getD_mem (by omega))
      have hlen : ((T.take j).flatMap be3).length = 3 * j := by rw [be3_flat, List.length_take]; omega
      have row : ∀ (d2 c fu2 : Nat) (W1 : MM), d2 + c = 3 → d2 < fu2 → ExC (fun z => z = A) MT W1 → AH W1 A ((T.take j).flatMap be3 ++ (be3 x).take c) → ∃ W', lpN (fun s : Int × MM => b_X31_finish_78 (Q : Int) ((wa pa t : Nat) : Int) (j : Int) s.1 s.2) fu2 ((c : Int), W1) = j_X31_finish_111 (Q : Int) ((wa pa t : Nat) : Int) (j : Int) W' ∧ ExC (fun z => z = A) MT W' ∧ AH W' A ((T.take j).flatMap be3 ++ be3 x) := by
        intro d2
        induction d2 with
        | zero =>
          intro c fu2 W1 hc hf2 hx1 hA1
          have : c = 3 := by omega
          subst this
          refine ⟨W1, lpN_end (by omega) ?_, hx1, hA1⟩
          show b_X31_finish_78 (Q : Int) ((wa pa t : Nat) : Int) (j : Int) 3 W1 = _
          unfold b_X31_finish_78
          rw [if_neg (by decide)]
        | succ d2 ih2 =>
          intro c fu2 W1 hc hf2 hx1 hA1
          obtain ⟨fu3, rfl⟩ : ∃ f, fu2 = f + 1 := ⟨fu2 - 1, by omega⟩
          obtain ⟨f1, f2, f3, f4, f5, f6, f7, f8⟩ := facts W1 hx1
          obtain ⟨v, hv⟩ : ∃ v, v = (be3 x).getD c 0 := ⟨_, rfl⟩
          have tl := c_told (i := j) (c := c) f3 (by omega) (by omega) (by omega)
          rw [← hx0, ← hv] at tl
          have wv : w32 v = v := by
            obtain ⟨x1, x2, x3⟩ := xo
            rw [hv]
            have : c = 0 ∨ c = 1 ∨ c = 2 := by omega
            rcases this with e | e | e <;> rw [e]
            · exact w32s (show 0 ≤ x.1 ∧ x.1 ≤ 2000 by omega)
            · exact w32s (show 0 ≤ x.2.1 ∧ x.2.1 ≤ 2000 by omega)
            · exact w32s (show 0 ≤ x.2.2 ∧ x.2.2 ≤ 2000 by omega)
          have ll : ((T.take j).flatMap be3 ++ (be3 x).take c).length = 3 * j + c := by
            rw [List.length_append, hlen, List.length_take]
            show 3 * j + min c 3 = _
            omega
          have ea : (T.take j).flatMap be3 ++ (be3 x).take c ++ [v] = (T.take j).flatMap be3 ++ (be3 x).take (c + 1) := by
            rw [List.append_assoc, List.take_succ, List.getElem?_eq_getElem (show c < (be3 x).length from by show c < 3; omega), hv, gd_get (show c < (be3 x).length from by show c < 3; omega)]
            rfl
          have A2 := AH_app hA1 wv
          rw [ea] at A2
          obtain ⟨W', r1, r2, r3⟩ := ih2 (c + 1) fu3 _ (by omega) (by omega) (hx1.trans (ExC_sI (A := fun z => z = A) rfl)) A2
          refine ⟨W', ?_, r2, r3⟩
          rw [lpN_cnt (b := fun s : Int × MM => b_X31_finish_78 (Q : Int) ((wa pa t : Nat) : Int) (j : Int) s.1 s.2) (s := ((c : Int), W1)) (s' := (((c + 1 : Nat) : Int), sI W1 A ((T.take j).flatMap be3 ++ (be3 x).take c).length v))]
          · exact r1
          · show b_X31_finish_78 (Q : Int) ((wa pa t : Nat) : Int) (j : Int) (c : Int) W1 = _
            unfold b_X31_finish_78
            rw [w32_nn (by omega), if_pos (show (c : Int) < w32 3 from by show (c : Int) < 3; omega), gfr_e f4, f5, Option.bind_some, gfr_e f6, f7, Option.bind_some, gfr_e f1, f2, Option.bind_some, ck_e f3.1.1, tl, Option.bind_some, sai_e (k := 528) (l := T.length * 3) (j := ((T.take j).flatMap be3 ++ (be3 x).take c).length) f8 (by decide) (by decide) (by rw [ll, show 3 * (j : Int) + (c : Int) = ((3 * j + c : Nat) : Int) from by omega]; exact w32_nn (by omega)) (by omega), Option.bind_some]
            rfl
      obtain ⟨W', r1, r2, r3⟩ := row 3 0 FU W (by omega) (by decide) hx (by rw [List.take_zero, List.append_nil]; exact hAH)
      have e6 : (T.take (j + 1)).flatMap be3 = (T.take j).flatMap be3 ++ be3 x := by rw [hx0]; exact flat_take be3 it0 (by omega)
      rw [← e6] at r3
      obtain ⟨W2, q1, q2, q3⟩ := ih (j + 1) fu' W' (by omega) (by omega) r2 r3
      refine ⟨W2, ?_, q2, q3⟩
      obtain ⟨f1, f2, f3, f4, f5, f6, f7, f8⟩ := facts W hx
      rw [lpN_cnt (b := fun s : Int × MM => b_X31_finish_65 (Q : Int) ((wa pa t : Nat) : Int) s.1 s.2) (s := ((j : Int), W)) (s' := (((j + 1 : Nat) : Int), W'))]
      · exact q1
      · show b_X31_finish_65 (Q : Int) ((wa pa t : Nat) : Int) (j : Int) W = _
        unfold b_X31_finish_65 l_X31_finish_78
        rw [gfr_e f1, f2, Option.bind_some, gfi_e f3.1.1, f3.2.1, Option.bind_some, w32_nn (by omega), w32_nn (by omega), if_pos (by omega)]
        rw [show lpN (fun s : Int × MM => b_X31_finish_78 (Q : Int) ((wa pa t : Nat) : Int) (j : Int) s.1 s.2) FU (0, W) = _ from r1]
        unfold j_X31_finish_111
        rfl
  obtain ⟨W, f1, f2, f3⟩ := fill T.length 0 FU MT (by omega) (by unfold FU; omega) .refl (fun i hi => by simp at hi)
  obtain ⟨c1, c2, c3⟩ := c_tellW (n := T.length) (wd := 3) (l := T.flatMap be3) CU rnb (Or.inr q2) (by rw [q2, if_neg (by decide)]; rfl) (by rw [be3_n]) (by omega) (M2 := W) (by rw [← hMT, ← hA]; exact f2) (by rw [← hA]; exact f3)
  obtain ⟨Ym, hYm⟩ : ∃ Ym : Ys, Ym = (yw Y, yl Y, st2 (ys Y) 269 r ((T.length : Nat) : Int), tlQ r (T.flatMap be3) (yq Y)) := ⟨_, rfl⟩
  have v : ∀ b i, b ≠ 269 → yv Ym b i = yv Y b i := fun b i z => by rw [hYm]; exact vI_ne (by omega)
  rw [← hYm] at c1
  obtain ⟨M', d1, d2, d3⟩ := c_end (how := 1) c1 (t := t) (by omega) (by rw [v _ _ (by decide)]; exact hgo) (Or.inr (by rw [v _ _ (by decide)]; omega)) (by
    right; right; right
    rw [v _ _ (by decide), er, hYm]
    exact c2) (by decide) hlf
  have eb : rnkY t Y = clY t 1 Ym := by
    unfold rnkY tlY
    rw [er, hYm, hT, hL0]
  rw [eb, ← hL0, ← hT]
  refine ⟨M', _, ?_, d2, U, s3, FK.trans (c3.mono (mo1 rfl)) d3⟩
  unfold f_X31_finish l_X31_finish_9
  rw [gfr_e k31, rk17, Option.bind_some, ck_e hS.2.2.2.1.1.1, b1, Option.bind_some]
  rw [show lpN (fun s : Int × MM => b_X31_finish_9 (Q : Int) ((wa pa t : Nat) : Int) s.1 s.2) FU (0, M1) = _ from s1]
  unfold j_X31_finish_48 l_X31_finish_65
  have e1 : f_X26_tell ((tk r : Nat) : Int) ((T.length : Nat) : Int) 3 U = some MT := e1
  rw [gfr_e w1.1, g2, Option.bind_some, gfr_e (by rw [SU.1]), SU.2.1.2.2.2.2.2.2.2.2.2.1, Option.bind_some, gfi_e s2.1.1, s2.2.1, Option.bind_some, ck_e k26, e1, Option.bind_some]
  rw [show lpN (fun s : Int × MM => b_X31_finish_65 (Q : Int) ((wa pa t : Nat) : Int) s.1 s.2) FU (0, MT) = _ from f1]
  obtain ⟨_, _, _, f4, _⟩ := facts W f2
  rw [ck_e f4, d1, Option.bind_some]
end CFIN
