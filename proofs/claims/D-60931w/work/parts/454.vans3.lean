section VANSW3
variable {V W : VV} {m al N p t oth Z s : Nat} {own : Nat → Ky} {sd ps sn pu rf : Nat → Int} {tm : Int} {ev tn : Nat → Nat} {Lb : Nat → List Trm} {Y Y0 : Ys} {l : List Int} {key : Ky}
theorem vy_frs9 {P : Nat → Nat → Prop} (h : VY V m al N own sd ps sn pu rf tm Lb oth Z ev tn Y) (f : FrS P V W) (hP : ∀ a i, P a i → mv a i = 9) : VY W m al N own sd ps sn pu rf tm Lb oth Z ev tn Y := vy_9 h (m_9 hP f)
/-- a work of the reference takes an answer -/
theorem v_ans0 (h : VY V m al N own sd ps sn pu rf tm Lb oth Z ev tn Y) (ht : t < 44) (htn : tn t < 2000000000) (hs : s < 1280) (hkey : gk V 200 (5 * s) = key) (hI : InV V l) (hb : isBL l) (hwl : wellL l = true) (hr : rmR t Y0 Y) (hw : wE N own Lb Y0 t) (hg : yv Y0 226 t ≠ 0) (hty : l.getD 0 0 = tyS Y0 t + 1) : ∃ U tn1, f_X16_answered (t : Int) (s : Int) V = j_X16_answered_272 (t : Int) U ∧ VY U m al N own sd ps sn pu rf tm Lb oth Z ev tn1 (ans0 t key l Y) ∧ KpV V U ∧ TnS t 1 tn tn1 := by
  have e : ∀ a i, yv Y a i = yv Y0 a i := fun a i => by show vI (ys Y) a i = _; rw [hr.2.1]
  have s5 := h.2.2.2.2.1
  have r230 : vI V 230 t = yv Y0 230 t := (s5 230 t (by unfold scA; omega)).trans (e 230 t)
  have w230 : w32 (yv Y0 230 t) = yv Y0 230 t := w32_vI
  have hh := (wOK_hd hw.1 hg).1
  have tn0 : TnS t 1 tn tn := ⟨fun _ _ => rfl, Nat.le_refl _, by omega⟩
  by_cases c1 : yv Y0 230 t = 1
  · have ty1 : l.getD 0 0 = 4 ∨ l.getD 0 0 = 6 := by
      rw [hty]
      unfold tyS tyL
      rw [if_pos c1]
      cases (yl Y0 t).2.1 with
      | true => exact Or.inr rfl
      | false => exact Or.inl rfl
    obtain ⟨U, a1, a2, a3⟩ := v_ansLook h ht hs hkey hI hb hwl (by rw [e]; exact c1) ty1
    exact ⟨U, tn, a1, a2, a3, tn0⟩
  · unfold f_X16_answered ans0
    rw [l2_n ht (by omega), r230, Option.bind_some, w230, if_neg (show ¬ yv Y0 230 t = w32 1 from c1), e 230, if_neg c1, Option.bind_some, w230]
    by_cases c2 : yv Y0 230 t = 2
    · rw [if_pos (show yv Y0 230 t = w32 2 from c2), if_pos c2]
      have r245 : vI V 245 t = yv Y 245 t := s5 245 t (by unfold scA; omega)
      rw [l2_n ht (by omega), r245, Option.bind_some, s2_n ht (by omega), Option.bind_some]
      have s1 := vy_st (a := 245) (i := t) (v := yv Y 245 t - 1) h (by omega)
      have v : ∀ a, a ≠ 245 → yv (setV Y 245 t (yv Y 245 t - 1)) a t = yv Y0 a t := fun a z => (vI_ne (by omega)).trans (e a t)
      obtain ⟨V', e1, e2, e3⟩ := v_stored (done := true) s1 ht (by unfold goW; rw [v _ (by omega), v _ (by omega)]; exact hh.2.1) (by
        rw [v _ (by omega)]
        rcases (wOK_hd hw.1 hg).2 with k | k | ⟨_, _, _, _, _, k, _⟩ | ⟨_, _, _, _, k⟩
        · omega
        · omega
        · exact k
        · rcases k with k | ⟨k, _⟩
          · omega
          · have := k.2.1; omega)
      have e1 : f_X16_stored (t : Int) 1 (st2 V 245 t (yv Y 245 t - 1)) = some V' := e1
      refine ⟨V', tn, by rw [e1, Option.bind_some], e2, ?_, tn0⟩
      exact (KpV_st (by unfold kpA; omega)).trans (KpV_frs e3 (fun a i z => by unfold kpA; omega))
    · obtain ⟨_, k1, k2, k3, k4, k5⟩ := wOK_q hw.1 hg c1 c2
      have hr9 : 0 ≤ yv Y 229 t ∧ yv Y 229 t < 256 := by rw [e]; have := hh.2.2.1 k2; have := hh.2.1.2; omega
      obtain ⟨w1, _⟩ := wOK_rm hr hw hg c1 c2
      have qk : qOK own Y t := (wOK_q w1 (by rw [e]; exact hg) (by rw [e]; exact c1) (by rw [e]; exact c2)).2.2.2.2.1
      rw [if_neg (show ¬ yv Y0 230 t = w32 2 from c2), if_neg c2, Option.bind_some, w230]
      by_cases c3 : yv Y0 230 t = 3
      · rw [if_pos (show yv Y0 230 t = w32 3 from c3), if_pos c3]
        have t9 : l.getD 0 0 = 10 := by rw [hty]; unfold tyS; rw [c3]; rfl
        obtain ⟨n, b1, b2, b3, b4⟩ := wl_10 hb hwl t9
        obtain ⟨V3, f1, f2, f3⟩ := v_takeFilter (p := 27) (m := n) hI hb b1 b2 (by omega)
        have f1 : f_X16_takeFilter 27 V = some V3 := f1
        have P9 : ∀ a i, (a = 220 ∨ (a = 156 ∧ (i = 78 ∨ i = 79))) → mv a i = 9 := fun a i z => by
          rcases z with z | ⟨z, y | y⟩
          · rw [z]; rfl
          · rw [z, y]; rfl
          · rw [z, y]; rfl
        have h3 := vy_frs9 h f3 P9
        obtain ⟨V4, g1, g2, g3⟩ := v_tookBits (hs := (l.getD 27 0).toNat) (bs := rdF l 27) h3 ht f2 (by omega)
        have eh : (((l.getD 27 0).toNat : Nat) : Int) = l.getD 27 0 := by omega
        rw [eh] at g2
        refine ⟨V4, tn, by rw [f1, Option.bind_some, g1, Option.bind_some], g2, KpV.trans (KpV_frs f3 (fun a i z k => ?_)) g3, tn0⟩
        unfold kpA at k; omega
      · rw [if_neg (show ¬ yv Y0 230 t = w32 3 from c3), if_neg c3, Option.bind_some, w230]
        have q9 := qk.2.2.2.2.2.2.2.2.1
        by_cases c4 : yv Y0 230 t = 4
        · rw [if_pos (show yv Y0 230 t = w32 4 from c4), if_pos c4]
          have t9 : l.getD 0 0 = 12 := by rw [hty]; unfold tyS; rw [c4]; rfl
          obtain ⟨b0, b1⟩ := wl_12 hb hwl t9
          obtain ⟨b2, b3, b4, b5⟩ := rdI_okM hb b1 rfl
          obtain ⟨n, hn⟩ : ∃ n, n = (l.getD 26 0).toNat := ⟨_, rfl⟩
          rw [← hn] at b2 b3 b4 b5 ⊢
          have b25 := isBL_get hb 25
          have run : ∀ bo : Bool, bo = decide (l.getD 25 0 = 1) → ∃ U tn1, j_X16_answered_244 (t : Int) (b2i bo) V = j_X16_answered_272 (t : Int) U ∧ VY U m al N own sd ps sn pu rf tm Lb oth Z ev tn1 (tmY t (decide (l.getD 25 0 = 1)) (rdI l 27 n) Y) ∧ KpV V U ∧ TnS t 1 tn tn1 := fun bo hbo => by
            have e84 : p2z 84 (b2i bo) V = some (st2 V 156 84 (b2i bo)) := by
              cases bo <;> rfl
            have h1 : VY (st2 V 156 84 (b2i bo)) m al N own sd ps sn pu rf tm Lb oth Z ev tn Y := vy_9 h (FrV_st rfl)
            have I1 : InV (st2 V 156 84 (b2i bo)) l := inV_frs hI (FrS_st (P := fun a i => a = 156 ∧ i = 84) ⟨rfl, rfl⟩) (by omega) (fun i => by omega)
            obtain ⟨V2, f1, f2, f3⟩ := v_takeTold (p := 26) (n := n) I1 hb b3 b4 (by omega)
            have f1 : f_X16_takeTold 26 (st2 V 156 84 (b2i bo)) = some V2 := f1
            have P9 : ∀ a i, ((221 ≤ a ∧ a ≤ 223) ∨ (a = 156 ∧ i = 83)) → mv a i = 9 := fun a i z => by
              rcases z with z | ⟨z, y⟩
              · rcases (show a = 221 ∨ a = 222 ∨ a = 223 by omega) with e | e | e <;> rw [e] <;> rfl
              · rw [z, y]; rfl
            have h2 := vy_frs9 h1 f3 P9
            have v84 : vI V2 156 84 = b2i bo := by
              rw [f3.vI (by omega), vI_eq rfl]
              cases bo <;> rfl
            obtain ⟨V3, tn1, g1, g2, g3, g4⟩ := v_tookMatches (more := bo) (tl := rdI l 27 n) h2 ht htn hr9 q9 f2 b2 v84
            refine ⟨V3, tn1, ?_, by rw [← hbo]; exact g2, KpV.trans (KpV.trans (KpV_st (by unfold kpA; omega)) (KpV_frs f3 (fun a i z k => by unfold kpA at k; omega))) g3, g4⟩
            unfold j_X16_answered_244
            rw [e84, Option.bind_some, f1, Option.bind_some, g1, Option.bind_some]
          have l26 : 26 < l.length := by omega
          rw [show (25 : Int) = ((25 : Nat) : Int) from rfl, l2_n (by omega) (by omega), hI.2.2 25 (by omega), Option.bind_some, w32s (by omega)]
          by_cases c : l.getD 25 0 = 1
          · rw [if_pos (show l.getD 25 0 = w32 1 from c)]
            exact run true (by rw [decide_eq_true c])
          · rw [if_neg (show ¬ l.getD 25 0 = w32 1 from c)]
            exact run false (by rw [decide_eq_false c])
        · rw [if_neg (show ¬ yv Y0 230 t = w32 4 from c4), if_neg c4]
          have c5 : yv Y0 230 t = 5 := by have := k4.2.1; omega
          have t9 : l.getD 0 0 = 14 := by rw [hty]; unfold tyS; rw [c5]; rfl
          obtain ⟨b2, b3, b4, b5⟩ := rdI_okM hb (wl_14 hb hwl t9) rfl
          obtain ⟨n, hn⟩ : ∃ n, n = (l.getD 25 0).toNat := ⟨_, rfl⟩
          rw [← hn] at b2 b3 b4 b5 ⊢
          obtain ⟨V2, f1, f2, f3⟩ := v_takeTold (p := 25) (n := n) hI hb b3 b4 (by omega)
          have f1 : f_X16_takeTold 25 V = some V2 := f1
          have P9 : ∀ a i, ((221 ≤ a ∧ a ≤ 223) ∨ (a = 156 ∧ i = 83)) → mv a i = 9 := fun a i z => by
            rcases z with z | ⟨z, y⟩
            · rcases (show a = 221 ∨ a = 222 ∨ a = 223 by omega) with e | e | e <;> rw [e] <;> rfl
            · rw [z, y]; rfl
          have h2 := vy_frs9 h f3 P9
          obtain ⟨j1, j2, j3, j4⟩ := qk.2.2.2.2.2.2.2.2.2.1 (by rw [e]; exact c5)
          have all := sc_all (by split <;> omega) j4
          obtain ⟨V3, tn1, g1, g2, g3, g4⟩ := v_tookChecked (tl := rdI l 26 n) h2 ht htn hr9 q9 (fun z hz => by
            have := all z hz
            by_cases c : yv Y 263 t = 0
            · rw [if_pos c] at this; omega
            · rw [if_neg c] at this; omega) j2 j3 f2 b2
          exact ⟨V3, tn1, by rw [f1, Option.bind_some, g1, Option.bind_some], g2, KpV.trans (KpV_frs f3 (fun a i z k => by unfold kpA at k; omega)) g3, g4⟩
end VANSW3
