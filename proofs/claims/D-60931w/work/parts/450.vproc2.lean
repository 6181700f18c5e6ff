section VPROC2
variable {V W : VV} {m al N p t oth Z : Nat} {own : Nat → Ky} {sd ps sn pu rf : Nat → Int} {tm : Int} {ev tn : Nat → Nat} {Lb : Nat → List Trm} {Y : Ys}
theorem wE_cl (h : yv Y 226 t = 0) (hw : wOK N own Lb Y t) : wE N own Lb Y t := ⟨hw, fun z => absurd h z, fun z => absurd h z⟩
theorem wE_1 (hw : wOK N own Lb Y t) (h : yv Y 226 t ≠ 0 → yv Y 230 t = 1 ∨ yv Y 230 t = 2) : wE N own Lb Y t := ⟨hw, fun z a => by have := h z; omega, fun z => ⟨fun a => by have := h z; omega, fun a => by have := h z; omega⟩⟩
/-- what a run leaves -/
def EndP (V V' : VV) (m al N : Nat) (own : Nat → Ky) (sd ps sn pu rf : Nat → Int) (tm : Int) (Lb : Nat → List Trm) (oth Z : Nat) (ev tn tn' : Nat → Nat) (t : Nat) (Y Y' : Ys) : Prop :=
  VY V' m al N own sd ps sn pu rf tm Lb oth Z ev tn' Y' ∧ KpV V V' ∧ (∀ z, z ≠ t → tn' z = tn z) ∧ tn t ≤ tn' t ∧ tn' t + 2 * mu own Y' t ≤ tn t + 2 * mu own Y t + 2 ∧ wE N own Lb Y' t ∧ FT t Y Y'
theorem pr_0 {n : Nat} (h : yv Y 226 t = 0) : prY m al N own sd tm Lb t (n + 1) Y = Y := by
  unfold prY
  rw [if_pos h]
theorem v_procLoop (hB : bdg N ev oth) (ht : t < 44) (hal : al ≤ 8) : ∀ (n : Nat) (V : VV) (Y : Ys) (tn : Nat → Nat) (fu : Nat), VY V m al N own sd ps sn pu rf tm Lb oth Z ev tn Y → LI N own Lb Y t → yv Y 226 t ≠ 0 → mu own Y t < n → n < fu → tn t + 2 * mu own Y t + 4 < 2000000000 →
    ∃ V' tn', lpN (fun s : Int × VV => b_X16_proceed_7 (t : Int) s.1 s.2) fu (1, V) = some V' ∧ EndP V V' m al N own sd ps sn pu rf tm Lb oth Z ev tn tn' t Y (prY m al N own sd tm Lb t n Y) ∧ RunP (fun Y => LI N own Lb Y t ∧ sdY m N own tm Lb ev Y) m al N own sd tm Lb t n Y := by
  intro n
  induction n with
  | zero => intro V Y tn fu _ _ _ h; omega
  | succ n ih =>
    intro V Y tn fu h hl hgo hm hfu htn
    obtain ⟨hw, hl2⟩ := id hl
    obtain ⟨hh, hk⟩ := wOK_hd hw hgo
    obtain ⟨fu', hfu'⟩ : ∃ f, fu = f + 1 := ⟨fu - 1, by omega⟩
    have s5 := h.2.2.2.2.1
    have r230 : vI V 230 t = yv Y 230 t := s5 230 t (by unfold scA; omega)
    have w230 : w32 (yv Y 230 t) = yv Y 230 t := w32_vI
    have sd0 := vy_sd h
    -- the loop's end
    have fin : ∀ V1, lpN (fun s : Int × VV => b_X16_proceed_7 (t : Int) s.1 s.2) fu' (0, V1) = some V1 := fun V1 => lpN_end (by omega) (by
      show b_X16_proceed_7 (t : Int) 0 V1 = _
      unfold b_X16_proceed_7
      rw [if_pos (by decide)])
    -- behind a step that goes on
    have go : ∀ V1 Y1 tn1 (x : Int), w32 x ≠ 0 → b_X16_proceed_7 (t : Int) 1 V = j_X16_proceed_82 (t : Int) x V1 → VY V1 m al N own sd ps sn pu rf tm Lb oth Z ev tn1 Y1 → KpV V V1 → FT t Y Y1 → (∀ z, z ≠ t → tn1 z = tn z) → tn t ≤ tn1 t ∧ tn1 t ≤ tn t + 2 → LI N own Lb Y1 t → mu own Y1 t < mu own Y t → ∃ V' tn', lpN (fun s : Int × VV => b_X16_proceed_7 (t : Int) s.1 s.2) fu (1, V) = some V' ∧ EndP V V' m al N own sd ps sn pu rf tm Lb oth Z ev tn tn' t Y (prY m al N own sd tm Lb t n Y1) ∧ RunP (fun Y => LI N own Lb Y t ∧ sdY m N own tm Lb ev Y) m al N own sd tm Lb t n Y1 := fun V1 Y1 tn1 x hx e1 e2 e3 e4 e5 e6 e7 e8 => by
      have r226 : vI V1 226 t = yv Y1 226 t := e2.2.2.2.2.1 226 t (by unfold scA; omega)
      have w226 : w32 (yv Y1 226 t) = yv Y1 226 t := w32_vI
      obtain ⟨k, hk⟩ : ∃ k, n = k + 1 := ⟨n - 1, by omega⟩
      by_cases c : yv Y1 226 t = 0
      · have eb : b_X16_proceed_7 (t : Int) 1 V = some (.inl (0, V1)) := by
          rw [e1]
          unfold j_X16_proceed_82 j_X16_proceed_99 j_X16_proceed_100
          rw [if_neg hx, l2_n ht (by omega), r226, Option.bind_some, w226, if_pos c]
          rfl
        refine ⟨V1, tn1, ?_, ?_, ?_⟩
        · rw [hfu', lpN_cnt (b := fun s : Int × VV => b_X16_proceed_7 (t : Int) s.1 s.2) (s := (1, V)) eb]
          exact fin V1
        · rw [hk, pr_0 c]
          exact ⟨e2, e3, e5, e6.1, by omega, wE_cl c e7.1, e4⟩
        · rw [hk]; exact ⟨⟨e7, vy_sd e2⟩, fun z => absurd c z⟩
      · have eb : b_X16_proceed_7 (t : Int) 1 V = some (.inl (1, V1)) := by
          rw [e1]
          unfold j_X16_proceed_82 j_X16_proceed_100
          rw [if_neg hx, l2_n ht (by omega), r226, Option.bind_some, w226, if_neg c]
          rfl
        obtain ⟨V', tn', f1, ⟨f2, f3, f4, f5, f6, f7, f9⟩, f8⟩ := ih V1 Y1 tn1 fu' e2 e7 c (by omega) (by omega) (by omega)
        refine ⟨V', tn', ?_, ⟨f2, e3.trans f3, fun z hz => (f4 z hz).trans (e5 z hz), by omega, by omega, f7, e4.trans f9⟩, f8⟩
        rw [hfu', lpN_cnt (b := fun s : Int × VV => b_X16_proceed_7 (t : Int) s.1 s.2) (s := (1, V)) eb]
        exact f1
    -- behind a step that does not
    have stop : ∀ V1 (x : Int), w32 x = 0 → b_X16_proceed_7 (t : Int) 1 V = j_X16_proceed_82 (t : Int) x V1 → lpN (fun s : Int × VV => b_X16_proceed_7 (t : Int) s.1 s.2) fu (1, V) = some V1 := fun V1 x hx e1 => by
      have eb : b_X16_proceed_7 (t : Int) 1 V = some (.inl (0, V1)) := by
        rw [e1]
        unfold j_X16_proceed_82 j_X16_proceed_99 j_X16_proceed_100
        rw [if_pos hx]; rfl
      rw [hfu', lpN_cnt (b := fun s : Int × VV => b_X16_proceed_7 (t : Int) s.1 s.2) (s := (1, V)) eb]
      exact fin V1
    have hprun : LI N own Lb Y t ∧ sdY m N own tm Lb ev Y := ⟨hl, sd0⟩
    by_cases c1 : yv Y 230 t = 1
    · -- a lookup
      obtain ⟨V1, Ls, e1, e2, e3, e4⟩ := v_lok h hB ht hal hh.2.1
      obtain ⟨o1, o2⟩ := wOK_lok (m := m) (al := al) (sd := sd) (tm := tm) hw hgo c1
      have g1 : yv (lokY m al N own sd tm t Y).2 226 t ≠ 0 := by rw [lok_v (by omega)]; exact hgo
      have g2 : yv (lokY m al N own sd tm t Y).2 230 t = 1 := by rw [lok_v (by omega)]; exact c1
      have li1 : LI N own Lb (lokY m al N own sd tm t Y).2 t := LI_1 o1 (fun _ => Or.inl g2)
      have epr : prY m al N own sd tm Lb t (n + 1) Y = if (lokY m al N own sd tm t Y).1 = true then prY m al N own sd tm Lb t n (behY m N own sd tm Lb t (lokY m al N own sd tm t Y).2) else (lokY m al N own sd tm t Y).2 := by
        rw [prY, if_neg hgo, if_pos c1]
      cases hb : (lokY m al N own sd tm t Y).1 with
      | false =>
        rw [hb] at e1 epr
        rw [if_neg (by decide)] at epr
        rw [epr]
        refine ⟨V1, tn, stop V1 0 (by decide) ?_, ⟨e2, e4, fun _ _ => rfl, Nat.le_refl _, by omega, wE_1 o1 (fun _ => Or.inl g2), FT_lok⟩, hprun, fun _ => ⟨fun _ => ⟨⟨li1, vy_sd e2⟩, fun z => by rw [hb] at z; cases z⟩, fun z => by omega, fun z => absurd c1 z⟩⟩
        unfold b_X16_proceed_7
        rw [if_neg (by decide), l2_n ht (by omega), r230, Option.bind_some, w230, if_pos (show yv Y 230 t = w32 1 from c1), e1, Option.bind_some]
        dsimp only
        rw [show (b2i false : Int) = 0 from rfl, if_pos (by decide)]
      | true =>
        rw [hb] at e1 epr
        rw [if_pos rfl] at epr
        rw [epr]
        obtain ⟨V2, f1, f2, f3⟩ := v_beh e2 hB ht (by omega) o1 g1 g2 e3
        obtain ⟨b1, b2⟩ := LI_beh (sd := sd) (vy_sd e2) ht o1 g1 g2
        obtain ⟨V', tn', r1, r2, r3⟩ := go V2 _ _ 1 (by decide) (by
          unfold b_X16_proceed_7
          rw [if_neg (by decide), l2_n ht (by omega), r230, Option.bind_some, w230, if_pos (show yv Y 230 t = w32 1 from c1), e1, Option.bind_some]
          dsimp only
          rw [show (b2i true : Int) = 1 from rfl, if_neg (by decide), f1, Option.bind_some]) f2 (e4.trans f3) (FT_lok.trans (FT_beh0 o1 g1 g2)) (fun z hz => fup_ne hz) (by rw [fup_eq]; omega) b1 (by omega)
        refine ⟨V', tn', r1, r2, hprun, fun _ => ⟨fun _ => ⟨⟨li1, vy_sd e2⟩, fun _ => r3⟩, fun z => by omega, fun z => absurd c1 z⟩⟩
    · by_cases c2 : yv Y 230 t = 2
      · have r245 : vI V 245 t = yv Y 245 t := s5 245 t (by unfold scA; omega)
        have w245 : w32 (yv Y 245 t) = yv Y 245 t := w32_vI
        have epr : prY m al N own sd tm Lb t (n + 1) Y = if yv Y 245 t = 0 then prY m al N own sd tm Lb t n (nxtY m own Lb t Y) else Y := by
          rw [prY, if_neg hgo, if_neg c1, if_pos c2]
        have hb : b_X16_proceed_7 (t : Int) 1 V = if yv Y 245 t = 0 then j_X16_proceed_63 (t : Int) 1 V else j_X16_proceed_63 (t : Int) 0 V := by
          unfold b_X16_proceed_7
          rw [if_neg (by decide), l2_n ht (by omega), r230, Option.bind_some, w230, if_neg (show ¬ yv Y 230 t = w32 1 from c1), Option.bind_some, w230, if_pos (show yv Y 230 t = w32 2 from c2), l2_n ht (by omega), r245, Option.bind_some, w245]
        by_cases c3 : yv Y 245 t = 0
        · rw [if_pos c3] at epr hb
          rw [epr]
          obtain ⟨k1, k2, k3⟩ : yv Y 227 t = 2 ∧ (0 ≤ yv Y 243 t ∧ yv Y 243 t ≤ 16) ∧ True := by
            rcases hk with hk | hk | ⟨k1, k2, k3, _⟩ | ⟨k1, k2, k3, k4, k5⟩
            · omega
            · omega
            · exact ⟨k1, k3, trivial⟩
            · rcases k5 with k5 | ⟨k5, _⟩
              · omega
              · have := k5.2.1; omega
          obtain ⟨V1, e1, e2, e3⟩ := v_nextTerm h ht (by omega) hh.2.1 hgo k1 k2
          obtain ⟨b1, b2⟩ := LI_nxt sd0 ht hw hgo c2
          obtain ⟨V', tn', r1, r2, r3⟩ := go V1 _ _ 1 (by decide) (by
            rw [hb]
            unfold j_X16_proceed_63
            rw [if_neg (by decide), e1, Option.bind_some]) e2 e3 FT_nxt (fun z hz => fup_ne hz) (by rw [fup_eq]; omega) b1 b2
          exact ⟨V', tn', r1, r2, hprun, fun _ => ⟨fun z => absurd z c1, fun _ _ => r3, fun _ z => absurd c2 z⟩⟩
        · rw [if_neg c3] at epr hb
          rw [epr]
          refine ⟨V, tn, stop V 0 (by decide) ?_, ⟨h, KpV.refl, fun _ _ => rfl, Nat.le_refl _, by omega, wE_1 hw (fun _ => Or.inr c2), .refl⟩, hprun, fun _ => ⟨fun z => absurd z c1, fun _ z => absurd z c3, fun _ z => absurd c2 z⟩⟩
          rw [hb]
          unfold j_X16_proceed_63
          rw [if_pos (by decide)]
      · -- a query
        obtain ⟨_, k1, k2, k3, k4, _⟩ := wOK_q hw hgo c1 c2
        have hr : 0 ≤ yv Y 229 t ∧ yv Y 229 t < 256 := by have := hh.2.2.1 k2; have := hh.2.1.2; omega
        have epr : prY m al N own sd tm Lb t (n + 1) Y = if (qonY N own sd tm t Y).1 = true then prY m al N own sd tm Lb t n (qonY N own sd tm t Y).2 else (qonY N own sd tm t Y).2 := by
          rw [prY, if_neg hgo, if_neg c1, if_neg c2]
        obtain ⟨V1, tn1, e1, e2, e3, e4⟩ := v_queryOn h hB ht (by omega) hh.2.1 hr k4
        have hb : b_X16_proceed_7 (t : Int) 1 V = j_X16_proceed_82 (t : Int) (b2i (qonY N own sd tm t Y).1) V1 := by
          unfold b_X16_proceed_7
          rw [if_neg (by decide), l2_n ht (by omega), r230, Option.bind_some, w230, if_neg (show ¬ yv Y 230 t = w32 1 from c1), Option.bind_some, w230, if_neg (show ¬ yv Y 230 t = w32 2 from c2), e1, Option.bind_some]
        rcases LI_qon (sd := sd) sd0 ht hl hgo c1 c2 with ⟨b1, b2, b3⟩ | ⟨b1, b2, b3, b4, b5⟩
        · rw [b2] at hb epr
          rw [if_pos rfl] at epr
          rw [epr]
          obtain ⟨V', tn', r1, r2, r3⟩ := go V1 _ _ (b2i true) (by decide) hb e2 e3 (FT_qon hr.1) e4.1 e4.2 b1 b3
          exact ⟨V', tn', r1, r2, hprun, fun _ => ⟨fun z => absurd z c1, fun z => absurd z c2, fun _ _ _ => r3⟩⟩
        · rw [b2] at hb epr
          rw [if_neg (by decide)] at epr
          rw [epr]
          have := e4.2
          exact ⟨V1, tn1, stop V1 (b2i false) (by decide) hb, ⟨e2, e3, e4.1, e4.2.1, by omega, ⟨b1, b4, b5⟩, FT_qon hr.1⟩, hprun, fun _ => ⟨fun z => absurd z c1, fun z => absurd z c2, fun _ _ z => by rw [b2] at z; cases z⟩⟩
/-- a work of the reference proceeds -/
theorem v_proceed {n : Nat} (h : VY V m al N own sd ps sn pu rf tm Lb oth Z ev tn Y) (hB : bdg N ev oth) (ht : t < 44) (hal : al ≤ 8) (hl : LI N own Lb Y t) (hm : mu own Y t < n) (hn : n ≤ 2000) (htn : tn t + 2 * mu own Y t + 4 < 2000000000) : ∃ V' tn', f_X16_proceed (t : Int) V = some V' ∧ EndP V V' m al N own sd ps sn pu rf tm Lb oth Z ev tn tn' t Y (prY m al N own sd tm Lb t n Y) ∧ RunP (fun Y => LI N own Lb Y t ∧ sdY m N own tm Lb ev Y) m al N own sd tm Lb t n Y := by
  have s5 := h.2.2.2.2.1
  have r226 : vI V 226 t = yv Y 226 t := s5 226 t (by unfold scA; omega)
  unfold f_X16_proceed l_X16_proceed_7
  rw [l2_n ht (by omega), r226, Option.bind_some]
  by_cases c : yv Y 226 t = 0
  · rw [c]
    obtain ⟨k, hk⟩ : ∃ k, n = k + 1 := ⟨n - 1, by omega⟩
    rw [hk, pr_0 c]
    refine ⟨V, tn, lpN_end (by decide) (by
      show b_X16_proceed_7 (t : Int) 0 V = _
      unfold b_X16_proceed_7
      rw [if_pos (by decide)]), ⟨h, KpV.refl, fun _ _ => rfl, Nat.le_refl _, by omega, wE_cl c hl.1, .refl⟩, ⟨hl, vy_sd h⟩, fun z => absurd c z⟩
  · have e : yv Y 226 t = 1 := (wOK_hd hl.1 c).1.1
    rw [e]
    exact v_procLoop hB ht hal n V Y tn FU h hl c hm (by unfold FU; omega) htn
end VPROC2
