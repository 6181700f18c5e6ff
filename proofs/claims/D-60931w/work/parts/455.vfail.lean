section VFAIL
variable {V W : VV} {m al N p t oth Z s : Nat} {own : Nat → Ky} {sd ps sn pu rf : Nat → Int} {tm : Int} {ev tn : Nat → Nat} {Lb : Nat → List Trm} {Y Y0 : Ys} {l : List Int} {key : Ky}
/-- a work of the reference gets no answer -/
theorem v_fai0 (h : VY V m al N own sd ps sn pu rf tm Lb oth Z ev tn Y) (ht : t < 44) (htn : tn t < 2000000000) (hs : s < 1280) (hkey : gk V 200 (5 * s) = key) (hr : rmR t Y0 Y) (hw : wE N own Lb Y0 t) (hg : yv Y0 226 t ≠ 0) : ∃ U tn1, f_X16_failed (t : Int) (s : Int) V = j_X16_failed_82 (t : Int) U ∧ VY U m al N own sd ps sn pu rf tm Lb oth Z ev tn1 (fai0 t key Y) ∧ KpV V U ∧ TnS t 1 tn tn1 := by
  have e : ∀ a i, yv Y a i = yv Y0 a i := fun a i => by show vI (ys Y) a i = _; rw [hr.2.1]
  have s5 := h.2.2.2.2.1
  have h4 := h.2.2.2.1
  have r230 : vI V 230 t = yv Y0 230 t := (s5 230 t (by unfold scA; omega)).trans (e 230 t)
  have w230 : w32 (yv Y0 230 t) = yv Y0 230 t := w32_vI
  have hh := (wOK_hd hw.1 hg).1
  have tn0 : TnS t 1 tn tn := ⟨fun _ _ => rfl, Nat.le_refl _, by omega⟩
  unfold f_X16_failed fai0
  rw [l2_n ht (by omega), r230, Option.bind_some, w230, e 230]
  by_cases c1 : yv Y0 230 t = 1
  · rw [if_pos (show yv Y0 230 t = w32 1 from c1), if_pos c1]
    have r239 : vI V 239 t = (yl Y t).2.2.2 := (h4 t ht).2.2.1
    obtain ⟨V7, hV7⟩ : ∃ V7, V7 = st2 V 239 t ((yl Y t).2.2.2 - 1) := ⟨_, rfl⟩
    have f7 : FrS (fun a i => a = 239) V V7 := by rw [hV7]; exact FrS_st rfl
    have E7 : EnsV V7 (fun t => (yl Y t).1) (fun t => (yl Y t).2.2.1) := ens_frs (LksV_ens h4) f7 (fun a i z => by omega)
    have k7 : gk V7 200 (5 * s) = key := by rw [← hkey]; exact gk_ext (fun j _ => f7.vI (by omega))
    have v7 : vI V7 239 t = w32 ((yl Y t).2.2.2 - 1) := by rw [hV7, vI_eq rfl]
    have tail : ∀ U, EnsV U (fun t => (yl Y t).1) (fup (fun t => (yl Y t).2.2.1) t (flE key (yl Y t).2.2.1)) → FrS (fun a i => (232 ≤ a ∧ a ≤ 239)) V U → vI U 239 t = w32 ((yl Y t).2.2.2 - 1) → (∀ a i, a ≠ 237 → ¬ (a = 239 ∧ i = t) → U a i = V a i) → VY U m al N own sd ps sn pu rf tm Lb oth Z ev tn (yw Y, fup (yl Y) t ((yl Y t).1, (yl Y t).2.1, flE key (yl Y t).2.2.1, w32 ((yl Y t).2.2.2 - 1)), ys Y, yq Y) ∧ KpV V U := fun U e1 e2 e3 e4 => by
      have hU' : ∀ a i, a = 231 ∨ a = 233 → vI U a i = vI V a i := fun a i z => by show w32 _ = w32 _; rw [e4 a i (by omega) (by omega)]
      refine ⟨vy_lk h (e2.mono (fun a i z => Or.inl z)) (LksV_mk ?_ (fun z hz => ?_) (fun z hz => ?_) (fun z hz => (hU' 231 z (by omega)).trans (h4 z hz).2.2.2)), KpV_frs e2 (fun a i z => by unfold kpA; omega)⟩
      · have e5 : (fun z => (fup (yl Y) t ((yl Y t).1, (yl Y t).2.1, flE key (yl Y t).2.2.1, w32 ((yl Y t).2.2.2 - 1)) z).1) = fun z => (yl Y z).1 := by
          funext z
          unfold fup
          by_cases c : z = t
          · rw [if_pos c, c]
          · rw [if_neg c]
        have e6 : (fun z => (fup (yl Y) t ((yl Y t).1, (yl Y t).2.1, flE key (yl Y t).2.2.1, w32 ((yl Y t).2.2.2 - 1)) z).2.2.1) = fup (fun t => (yl Y t).2.2.1) t (flE key (yl Y t).2.2.1) := by
          funext z
          unfold fup
          by_cases c : z = t
          · rw [if_pos c, if_pos c]
          · rw [if_neg c, if_neg c]
        rw [e5, e6]
        exact e1
      · rw [hU' 233 z (by omega), (h4 z hz).2.1]
        unfold fup
        by_cases c : z = t
        · rw [if_pos c, c]
        · rw [if_neg c]
      · unfold fup
        by_cases c : z = t
        · rw [if_pos c, c, e3]
        · rw [if_neg c, ← (h4 z hz).2.2.1]
          show w32 _ = w32 _
          rw [e4 239 z (by omega) (by omega)]
    rw [l2_n ht (by omega), r239, Option.bind_some, s2_n ht (by omega), Option.bind_some, ← hV7, show (5 * (s : Int)) = ((5 * s : Nat) : Int) from by omega]
    rcases v_entryWith (e := 200) (q := 5 * s) (n := 6400) (E7 t ht) ht m200 (by omega) (by omega) with ⟨i, i1, i2, i3⟩ | ⟨i2, i3⟩
    · have i2 : f_X16_entryWith (t : Int) 200 ((5 * s : Nat) : Int) V7 = some ((65 * t + i : Nat) : Int) := i2
      rw [k7] at i3
      have el := (E7 t ht).2.2.1.1
      have i1 : i < (yl Y t).2.2.1.length := i1
      have il : i < 64 := by omega
      obtain ⟨V9, hV9⟩ : ∃ V9, V9 = st2 V7 237 (65 * t + i) 3 := ⟨_, rfl⟩
      have f9 : FrS (fun a i => a = 237) V7 V9 := by rw [hV9]; exact FrS_st rfl
      obtain ⟨x, hx⟩ : ∃ x, gE V7 (65 * t + i) = x := ⟨_, rfl⟩
      have xm : x ∈ (yl Y t).2.2.1 := by
        have p := (E7 t ht).2.2.2
        rw [← p.mem_iff, ← hx]
        exact List.mem_map.mpr ⟨i, List.mem_range.mpr i1, rfl⟩
      have hxk : eKey x = key := by rw [← hx]; exact i3
      have okx := (E7 t ht).2.2.1.2.2 x xm
      obtain ⟨r1, r2⟩ := tail V9 (fun z hz => by
        unfold fup
        by_cases c : z = t
        · rw [if_pos c, c, ← hxk, fl_st (E7 t ht).2.2.1 xm]
          refine en_st (E7 t ht) i1 hx (by omega) okx.2.2.2 (f9.vI (by omega)) (gk_ext (fun j _ => f9.vI (by omega))) (fun j hj => ?_)
          by_cases e : j = i
          · rw [if_pos e, e, ← hx]
            unfold gE
            rw [f9.vI (a := 236) (by omega), f9.vI (a := 238) (by omega), hV9, vI_eq rfl, gk_ext (V := V7) (W := st2 V7 237 (65 * t + i) 3) (fun y _ => vI_ne (by omega))]
            rfl
          · rw [if_neg e]
            exact gE_ext (gk_ext (fun y _ => f9.vI (by omega))) (f9.vI (by omega)) (by rw [hV9]; exact vI_ne (by omega)) (f9.vI (by omega))
        · rw [if_neg c]
          refine en_ag (E7 z hz) (f9.vI (by omega)) (gk_ext (fun j _ => f9.vI (by omega))) (fun j hj => ?_)
          have hne : 65 * z + j ≠ 65 * t + i := by omega
          exact gE_ext (gk_ext (fun y _ => f9.vI (by omega))) (f9.vI (by omega)) (by rw [hV9]; exact vI_ne (by omega)) (f9.vI (by omega))) ((f7.mono (fun a i z => by omega)).trans (f9.mono (fun a i z => by omega))) (by rw [f9.vI (by omega)]; exact v7) (fun a j z1 z2 => by rw [f9 a j (by omega), hV7]; exact st2_ne (by omega))
      refine ⟨V9, tn, ?_, r1, r2, tn0⟩
      rw [i2, Option.bind_some, w32_nn (by omega), if_neg (by omega), s2_n (by omega) (by omega), Option.bind_some, hV9]
      rfl
    · have i2 : f_X16_entryWith (t : Int) 200 ((5 * s : Nat) : Int) V7 = some (-1) := i2
      rw [k7] at i3
      obtain ⟨r1, r2⟩ := tail V7 (by
        rw [(hasE_st (s := 0) (c := 0) i3).2]
        have : fup (fun t => (yl Y t).2.2.1) t (yl Y t).2.2.1 = fun t => (yl Y t).2.2.1 := by
          funext z
          unfold fup
          by_cases c : z = t
          · rw [if_pos c, c]
          · rw [if_neg c]
        rw [this]; exact E7) (f7.mono (fun a i z => by omega)) v7 (fun a j z1 z2 => by rw [hV7]; exact st2_ne (by omega))
      refine ⟨V7, tn, ?_, r1, r2, tn0⟩
      rw [i2, Option.bind_some, if_pos (by decide)]
      rfl
  · rw [if_neg (show ¬ yv Y0 230 t = w32 1 from c1), if_neg c1, Option.bind_some, w230]
    by_cases c2 : yv Y0 230 t = 2
    · rw [if_pos (show yv Y0 230 t = w32 2 from c2), if_pos c2]
      have r245 : vI V 245 t = yv Y 245 t := s5 245 t (by unfold scA; omega)
      rw [l2_n ht (by omega), r245, Option.bind_some, s2_n ht (by omega), Option.bind_some]
      have s1 := vy_st (a := 245) (i := t) (v := yv Y 245 t - 1) h (by omega)
      have v : ∀ a, a ≠ 245 → yv (setV Y 245 t (yv Y 245 t - 1)) a t = yv Y0 a t := fun a z => (vI_ne (by omega)).trans (e a t)
      obtain ⟨V', e1, e2, e3⟩ := v_stored (done := false) s1 ht (by unfold goW; rw [v _ (by omega), v _ (by omega)]; exact hh.2.1) (by
        rw [v _ (by omega)]
        rcases (wOK_hd hw.1 hg).2 with k | k | ⟨_, _, _, _, _, k, _⟩ | ⟨_, _, _, _, k⟩
        · omega
        · omega
        · exact k
        · rcases k with k | ⟨k, _⟩
          · omega
          · have := k.2.1; omega)
      have e1 : f_X16_stored (t : Int) 0 (st2 V 245 t (yv Y 245 t - 1)) = some V' := e1
      refine ⟨V', tn, by rw [e1, Option.bind_some], e2, ?_, tn0⟩
      exact (KpV_st (by unfold kpA; omega)).trans (KpV_frs e3 (fun a i z => by unfold kpA; omega))
    · rw [if_neg (show ¬ yv Y0 230 t = w32 2 from c2), if_neg c2]
      obtain ⟨V1, a1, a2, a3⟩ := v_close (how := 2) h ht htn (by rw [e]; exact hh.2.1.2)
      exact ⟨V1, _, by rw [a1, Option.bind_some], a2, a3, fun z hz => fup_ne hz, by rw [fup_eq]; omega, by rw [fup_eq]; omega⟩
/-- an answer, and what comes of it -/
theorem v_answered (h : VY V m al N own sd ps sn pu rf tm Lb oth Z ev tn Y) (hB : bdg N ev oth) (hal : al ≤ 8) (ht : t < 44) (htn : tn t + 2 * mu own Y0 t + 8 < 2000000000) (hm : mu own Y0 t < 2000) (hs : s < 1280) (hkey : gk V 200 (5 * s) = key) (hI : InV V l) (hb : isBL l) (hwl : wellL l = true) (hr : rmR t Y0 Y) (hw : wE N own Lb Y0 t) (hg : yv Y0 226 t ≠ 0) (hty : l.getD 0 0 = tyS Y0 t + 1) (hQ : cnA (yp Y0 t) t (yw Y0) ≤ 1000) : ∃ V' tn1 tn', f_X16_answered (t : Int) (s : Int) V = some V' ∧ KpV V V' ∧ EndP V' V' m al N own sd ps sn pu rf tm Lb oth Z ev tn1 tn' t (ans0 t key l Y) (prY m al N own sd tm Lb t 2000 (ans0 t key l Y)) ∧ TnS t 1 tn tn1 ∧ mu own (ans0 t key l Y) t ≤ mu own Y0 t ∧ RunP (fun Y => LI N own Lb Y t ∧ sdY m N own tm Lb ev Y) m al N own sd tm Lb t 2000 (ans0 t key l Y) := by
  obtain ⟨U, tn1, a1, a2, a3, a4⟩ := v_ans0 h ht (by omega) hs hkey hI hb hwl hr hw hg hty
  obtain ⟨b1, b2⟩ := LI_ans (key := key) hr hw hg hb hwl hty hQ
  have := a4.2
  obtain ⟨V', tn', c1, ⟨c2, c3, c4⟩, c5⟩ := v_proceed (n := 2000) a2 hB ht hal b1 (by omega) (Nat.le_refl _) (by omega)
  refine ⟨V', tn1, tn', ?_, a3.trans c3, ⟨c2, .refl, c4⟩, a4, b2, c5⟩
  rw [a1]
  unfold j_X16_answered_272
  rw [c1, Option.bind_some]
theorem v_failed (h : VY V m al N own sd ps sn pu rf tm Lb oth Z ev tn Y) (hB : bdg N ev oth) (hal : al ≤ 8) (ht : t < 44) (htn : tn t + 2 * mu own Y0 t + 8 < 2000000000) (hm : mu own Y0 t < 2000) (hs : s < 1280) (hkey : gk V 200 (5 * s) = key) (hr : rmR t Y0 Y) (hw : wE N own Lb Y0 t) (hg : yv Y0 226 t ≠ 0) (hQ : cnA (yp Y0 t) t (yw Y0) ≤ 1000) : ∃ V' tn1 tn', f_X16_failed (t : Int) (s : Int) V = some V' ∧ KpV V V' ∧ EndP V' V' m al N own sd ps sn pu rf tm Lb oth Z ev tn1 tn' t (fai0 t key Y) (prY m al N own sd tm Lb t 2000 (fai0 t key Y)) ∧ TnS t 1 tn tn1 ∧ mu own (fai0 t key Y) t ≤ mu own Y0 t ∧ RunP (fun Y => LI N own Lb Y t ∧ sdY m N own tm Lb ev Y) m al N own sd tm Lb t 2000 (fai0 t key Y) := by
  obtain ⟨U, tn1, a1, a2, a3, a4⟩ := v_fai0 h ht (by omega) hs hkey hr hw hg
  obtain ⟨b1, b2⟩ := LI_fai (key := key) hr hw hg hQ
  have := a4.2
  obtain ⟨V', tn', c1, ⟨c2, c3, c4⟩, c5⟩ := v_proceed (n := 2000) a2 hB ht hal b1 (by omega) (Nat.le_refl _) (by omega)
  refine ⟨V', tn1, tn', ?_, a3.trans c3, ⟨c2, .refl, c4⟩, a4, b2, c5⟩
  rw [a1]
  unfold j_X16_failed_82
  rw [c1, Option.bind_some]
end VFAIL
