section VANSW2
variable {V W : VV} {m al N p t oth Z s : Nat} {own : Nat → Ky} {sd ps sn pu rf : Nat → Int} {tm : Int} {ev tn : Nat → Nat} {Lb : Nat → List Trm} {Y Y0 : Ys} {l : List Int} {key : Ky}
/-- one that was asked is marked -/
theorem v_mark {c sn' cv : Int} {E : List Ent} {tgt : Ky} {i : Nat} (h : EnV V t tgt E) (hi : i < E.length) (hk : eKey (gE V (65 * t + i)) = key) (ht : t < 44) (hs : 0 ≤ sn' ∧ sn' ≤ 3) (hc : 0 ≤ c ∧ c ≤ 65535) (hcv : (cv = c ∨ (cv = -1 ∧ c = 0))) : EnV (st2 (st2 V 237 (65 * t + i) sn') 238 (65 * t + i) cv) t tgt (stE key sn' c E) := by
  obtain ⟨x, hx⟩ : ∃ x, gE V (65 * t + i) = x := ⟨_, rfl⟩
  rw [hx] at hk
  rw [← hk]
  refine en_st h hi hx hs hc (by rw [vI_ne (by omega), vI_ne (by omega)]) (gk_ext (fun j _ => by rw [vI_ne (by omega), vI_ne (by omega)])) (fun j hj => ?_)
  by_cases e : j = i
  · rw [if_pos e, e, ← hx]
    unfold gE
    rw [vI_eq rfl, vI_ne (show ¬ (237 = 238 ∧ _) from by omega), vI_eq rfl, vI_ne (show ¬ (236 = 238 ∧ _) from by omega), vI_ne (show ¬ (236 = 237 ∧ _) from by omega), gk_ext (V := V) (W := st2 (st2 V 237 (65 * t + i) sn') 238 (65 * t + i) cv) (fun y _ => by rw [vI_ne (by omega), vI_ne (by omega)]), w32s (by omega)]
    rcases hcv with z | ⟨z1, z2⟩
    · rw [z, w32_id (by omega) (by omega), if_pos hc.1]; rfl
    · rw [z1, z2]; rfl
  · rw [if_neg e]
    exact gE_ext (gk_ext (fun y _ => by rw [vI_ne (by omega), vI_ne (by omega)])) (by rw [vI_ne (by omega), vI_ne (by omega)]) (by rw [vI_ne (by omega), vI_ne (by omega)]) (by rw [vI_ne (by omega), vI_ne (by omega)])
/-- the lookup of a work that was answered -/
theorem v_ansLook (h : VY V m al N own sd ps sn pu rf tm Lb oth Z ev tn Y) (ht : t < 44) (hs : s < 1280) (hkey : gk V 200 (5 * s) = key) (hI : InV V l) (hb : isBL l) (hwl : wellL l = true) (h1 : yv Y 230 t = 1) (hty : l.getD 0 0 = 4 ∨ l.getD 0 0 = 6) : ∃ U, f_X16_answered (t : Int) (s : Int) V = j_X16_answered_161 (t : Int) U ∧ VY U m al N own sd ps sn pu rf tm Lb oth Z ev tn (ans0 t key l Y) ∧ KpV V U := by
  have s5 := h.2.2.2.2.1
  have h4 := h.2.2.2.1
  have r230 : vI V 230 t = 1 := (s5 230 t (by unfold scA; omega)).trans h1
  have r239 : vI V 239 t = (yl Y t).2.2.2 := (h4 t ht).2.2.1
  obtain ⟨V7, hV7⟩ : ∃ V7, V7 = st2 V 239 t ((yl Y t).2.2.2 - 1) := ⟨_, rfl⟩
  have f7 : FrS (fun a i => a = 239) V V7 := by rw [hV7]; exact FrS_st rfl
  have E7 : EnsV V7 (fun t => (yl Y t).1) (fun t => (yl Y t).2.2.1) := ens_frs (LksV_ens h4) f7 (fun a i z => by omega)
  have k7 : gk V7 200 (5 * s) = key := by rw [← hkey]; exact gk_ext (fun j _ => f7.vI (by omega))
  have l20 := wl_len hwl
  have I7 : InV V7 l := inV_frs hI f7 (by omega) (fun i => by omega)
  obtain ⟨cN, hcN⟩ : ∃ cN : Int, cN = if l.getD 0 0 = 6 then l.getD 25 0 * 256 + l.getD 26 0 else 0 := ⟨_, rfl⟩
  obtain ⟨o, ho⟩ : ∃ o : Nat, o = if l.getD 0 0 = 6 then 27 else 25 := ⟨_, rfl⟩
  have ho2 : (l.getD 0 0 = 6 ∧ o = 27) ∨ (l.getD 0 0 ≠ 6 ∧ o = 25) := by
    rw [ho]
    by_cases c : l.getD 0 0 = 6
    · rw [if_pos c]; exact Or.inl ⟨c, rfl⟩
    · rw [if_neg c]; exact Or.inr ⟨c, rfl⟩
  have b25 := isBL_get hb 25
  have b26 := isBL_get hb 26
  have cr : 0 ≤ cN ∧ cN ≤ 65535 := by
    rw [hcN]
    by_cases c : l.getD 0 0 = 6
    · rw [if_pos c]; omega
    · rw [if_neg c]; omega
  have ndw : ndW l.length (fun i => l.getD i 0) o = true := by
    rcases ho2 with ⟨c, e⟩ | ⟨c, e⟩
    · rw [e]; exact wl_6 hb hwl c
    · rw [e]; exact wl_4 hb hwl (by omega)
  obtain ⟨n, n1, n2, n3, n4⟩ := nd_shape hb ndw
  -- behind the mark
  have tail : ∀ U, EnsV U (fun t => (yl Y t).1) (fup (fun t => (yl Y t).2.2.1) t (stE key 2 cN (yl Y t).2.2.1)) → FrS (fun a i => (232 ≤ a ∧ a ≤ 239) ∨ a = 273) V U → vI U 239 t = w32 ((yl Y t).2.2.2 - 1) → (∀ a i, a ≠ 237 → a ≠ 238 → ¬ (a = 239 ∧ i = t) → U a i = V a i) → ∃ U', j_X16_answered_71 (t : Int) U = j_X16_answered_161 (t : Int) U' ∧ VY U' m al N own sd ps sn pu rf tm Lb oth Z ev tn (ans0 t key l Y) ∧ KpV V U' := fun U e1 e2 e3 e4 => by
    have IU : InV U l := inV_frs hI e2 (by omega) (fun i => by omega)
    obtain ⟨U', g1, g2, g3⟩ := v_nodesIn (o := o) (n := n) ht e1 IU hb n1 n2 (by omega) (by omega) n4
    rw [fup_eq] at g2
    have ef : ∀ F, fup (fup (fun t => (yl Y t).2.2.1) t (stE key 2 cN (yl Y t).2.2.1)) t F = fup (fun t => (yl Y t).2.2.1) t F := fun F => by
      funext z
      unfold fup
      by_cases c : z = t
      · rw [if_pos c, if_pos c]
      · rw [if_neg c, if_neg c, if_neg c]
    rw [ef] at g2
    refine ⟨U', ?_, ?_, ?_⟩
    · rw [← g1]
      unfold j_X16_answered_71
      rw [l2_e (a := 271) (n := 460) (j := 0) (by decide) (by decide), IU.2.2 0 (by omega), Option.bind_some]
      unfold j_X16_answered_89
      have b0 := isBL_get hb 0
      rw [w32s (by omega)]
      rcases ho2 with ⟨c, e⟩ | ⟨c, e⟩
      · rw [if_pos (show l.getD 0 0 = w32 6 from c), e]
        rw [show (27 : Int) = ((27 : Nat) : Int) from rfl, l2_n (by omega) (by omega), IU.2.2 27 (by omega), Option.bind_some, show l.getD 27 0 = (n : Int) from e ▸ n1]
      · rw [if_neg (show ¬ l.getD 0 0 = w32 6 from c), e]
        rw [show (25 : Int) = ((25 : Nat) : Int) from rfl, l2_n (by omega) (by omega), IU.2.2 25 (by omega), Option.bind_some, show l.getD 25 0 = (n : Int) from e ▸ n1]
    · unfold ans0
      rw [if_pos h1]
      have hU' : ∀ a i, a = 231 ∨ a = 233 → vI U' a i = vI V a i := fun a i z => (g3.vI (by unfold PE; omega)).trans (by show w32 _ = w32 _; rw [e4 a i (by omega) (by omega) (by omega)])
      have h39 : ∀ i, vI U' 239 i = vI U 239 i := fun i => g3.vI (by unfold PE; omega)
      refine vy_lk h ((e2.trans (g3.mono (fun a i z => by unfold PE at z; omega))).mono (fun a i z => ?_)) (LksV_mk ?_ (fun z hz => ?_) (fun z hz => ?_) (fun z hz => (hU' 231 z (by omega)).trans (h4 z hz).2.2.2))
      · rcases z with z | z
        · exact Or.inl z
        · exact Or.inr (by rw [z]; rfl)
      · have e5 : (fun z => (fup (yl Y) t (lkA1 key l (yl Y t)) z).1) = fun z => (yl Y z).1 := by
          funext z
          unfold fup
          by_cases c : z = t
          · rw [if_pos c, c]; rfl
          · rw [if_neg c]
        have e6 : (fun z => (fup (yl Y) t (lkA1 key l (yl Y t)) z).2.2.1) = fup (fun t => (yl Y t).2.2.1) t ((ndL l o).foldl (fun E x => addE (yl Y t).1 E (x.1, x.2, 0, 0)) (stE key 2 cN (yl Y t).2.2.1)) := by
          funext z
          unfold fup
          by_cases c : z = t
          · rw [if_pos c, if_pos c]
            unfold lkA1
            rw [ho, hcN]
          · rw [if_neg c, if_neg c]
        rw [e5, e6]
        exact g2
      · rw [hU' 233 z (by omega), (h4 z hz).2.1]
        unfold fup
        by_cases c : z = t
        · rw [if_pos c, c]; rfl
        · rw [if_neg c]
      · rw [h39]
        unfold fup
        by_cases c : z = t
        · rw [if_pos c, c, e3]; rfl
        · rw [if_neg c, ← (h4 z hz).2.2.1]
          show w32 _ = w32 _
          rw [e4 239 z (by omega) (by omega) (by omega)]
    · exact KpV_frs (e2.trans (g3.mono (fun a i z => by unfold PE at z; omega))) (fun a i z => by unfold kpA; omega)
  unfold f_X16_answered
  rw [l2_n ht (by omega), r230, Option.bind_some, if_pos (by decide), l2_n ht (by omega), r239, Option.bind_some, s2_n ht (by omega), Option.bind_some, ← hV7]
  have es : (5 * (s : Int)) = ((5 * s : Nat) : Int) := by omega
  rw [es]
  have v7 : vI V7 239 t = w32 ((yl Y t).2.2.2 - 1) := by rw [hV7, vI_eq rfl]
  rcases v_entryWith (e := 200) (q := 5 * s) (n := 6400) (E7 t ht) ht m200 (by omega) (by omega) with ⟨i, i1, i2, i3⟩ | ⟨i2, i3⟩
  · have i2 : f_X16_entryWith (t : Int) 200 ((5 * s : Nat) : Int) V7 = some ((65 * t + i : Nat) : Int) := i2
    rw [k7] at i3
    have el := (E7 t ht).2.2.1.1
    have il : i < 64 := by
      have i1 : i < (yl Y t).2.2.1.length := i1
      omega
    rw [i2, Option.bind_some, w32_nn (by omega), if_neg (by omega), s2_n (by omega) (by omega), Option.bind_some, l2_e (a := 271) (n := 460) (j := 0) (by decide) (by decide), vI_ne (by omega), I7.2.2 0 (by omega), Option.bind_some]
    have b0 := isBL_get hb 0
    rw [w32s (by omega)]
    obtain ⟨cv, hcv⟩ : ∃ cv : Int, cv = if l.getD 0 0 = 6 then l.getD 25 0 * 256 + l.getD 26 0 else -1 := ⟨_, rfl⟩
    have hcv2 : cv = cN ∨ (cv = -1 ∧ cN = 0) := by
      rw [hcv, hcN]
      by_cases c : l.getD 0 0 = 6
      · rw [if_pos c, if_pos c]; exact Or.inl rfl
      · rw [if_neg c, if_neg c]; exact Or.inr ⟨rfl, rfl⟩
    obtain ⟨V9, hV9⟩ : ∃ V9, V9 = st2 (st2 V7 237 (65 * t + i) 2) 238 (65 * t + i) cv := ⟨_, rfl⟩
    have f9 : FrS (fun a i => a = 237 ∨ a = 238) V7 V9 := by rw [hV9]; exact FrS.trans (FrS_st (Or.inl rfl)) (FrS_st (Or.inr rfl))
    have em := v_mark (key := key) (c := cN) (sn' := 2) (cv := cv) (E7 t ht) i1 i3 ht (by omega) cr hcv2
    rw [← hV9] at em
    obtain ⟨U', g1, g2, g3⟩ := tail V9 (fun z hz => by
      unfold fup
      by_cases c : z = t
      · rw [if_pos c, c]; exact em
      · rw [if_neg c]
        have el2 := (E7 z hz).2.2.1.1
        refine en_ag (E7 z hz) (f9.vI (by omega)) (gk_ext (fun j _ => f9.vI (by omega))) (fun j hj => ?_)
        have hne : 65 * z + j ≠ 65 * t + i := by omega
        exact gE_ext (gk_ext (fun y _ => f9.vI (by omega))) (f9.vI (by omega)) (by rw [hV9, vI_ne (by omega), vI_ne (by omega)]) (by rw [hV9, vI_ne (by omega), vI_ne (by omega)])) ((f7.mono (fun a i z => by omega)).trans (f9.mono (fun a i z => by omega))) (by rw [f9.vI (by omega)]; exact v7) (fun a j z1 z2 z3 => by rw [f9 a j (by omega), hV7]; exact st2_ne (by omega))
    refine ⟨U', ?_, g2, g3⟩
    rw [← g1, hV9, hcv]
    unfold j_X16_answered_70
    by_cases c : l.getD 0 0 = 6
    · rw [if_pos (show l.getD 0 0 = w32 6 from c), if_pos c]
      have I8 : InV (st2 V7 237 (65 * t + i) 2) l := inV_frs I7 (FrS_st (P := fun a i => a = 237) rfl) (by omega) (fun i => by omega)
      have hl27 : 27 < l.length := by omega
      rw [e_pairAt (i := 25) (p := 25) rfl (by omega) (by rw [I8.2.2 25 (by omega)]; exact b25) (by rw [I8.2.2 26 (by omega)]; exact b26), Option.bind_some, I8.2.2 25 (by omega), I8.2.2 (25 + 1) (by omega), s2_n (by omega) (by omega), Option.bind_some]
    · rw [if_neg (show ¬ l.getD 0 0 = w32 6 from c), if_neg c, s2_n (by omega) (by omega), Option.bind_some]
  · have i2 : f_X16_entryWith (t : Int) 200 ((5 * s : Nat) : Int) V7 = some (-1) := i2
    rw [i2, Option.bind_some, if_pos (by decide)]
    rw [k7] at i3
    refine tail V7 ?_ (f7.mono (fun a i z => by omega)) v7 (fun a j z1 z2 z3 => by rw [hV7]; exact st2_ne (by omega))
    rw [(hasE_st i3).1]
    have : fup (fun t => (yl Y t).2.2.1) t (yl Y t).2.2.1 = fun t => (yl Y t).2.2.1 := by
      funext z
      unfold fup
      by_cases c : z = t
      · rw [if_pos c, c]
      · rw [if_neg c]
    rw [this]; exact E7
end VANSW2
