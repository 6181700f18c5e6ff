section VHOLD2
variable {V W : VV} {m al N p t oth Z : Nat} {own : Nat → Ky} {sd ps sn pu rf : Nat → Int} {tm : Int} {ev tn : Nat → Nat} {Lb : Nat → List Trm} {Y : Ys} {Ls : List Nat}
theorem mv66 {a i : Nat} (z : 226 ≤ a ∧ a ≤ 270 ∧ a ≠ 240) : mv a i ≠ 9 := by
  unfold mv
  rw [if_neg (by omega)]
  unfold mvA
  rw [if_neg (by omega), if_neg (by omega), if_neg (by omega), if_neg (by omega), if_neg (by omega)]
  by_cases c1 : 226 ≤ a ∧ a ≤ 264 ∧ a ≠ 240
  · rw [if_pos c1]; decide
  · rw [if_neg c1, if_pos (by omega)]; decide
theorem PSc9 {a i : Nat} (z : PSc a i) : mv a i = 9 := by
  rcases z with z | z
  · rw [z]; rfl
  · rw [z.1, z.2]; rfl
theorem kp_9 {a i : Nat} (z : PSc a i) : ¬ kpA a i := by unfold PSc at z; unfold kpA; omega
/-- behind the lookup of a query's term -/
theorem v_holder (h : VY V m al N own sd ps sn pu rf tm Lb oth Z ev tn Y) (ht : t < 44) (htn : tn t < 2000000000) (hg : goW N Y t) (hr : 0 ≤ yv Y 229 t ∧ yv Y 229 t < 256) (h269 : yv Y 269 (yv Y 229 t).toNat = 0) (h247 : 1 ≤ yv Y 247 t ∧ yv Y 247 t ≤ 3) (h248 : 0 ≤ yv Y 248 t ∧ yv Y 248 t < yv Y 247 t) (hf : FroV V m t (yl Y t).2.2.1 Ls) : ∃ V', f_X16_holder (t : Int) V = some V' ∧ VY V' m al N own sd ps sn pu rf tm Lb oth Z ev (fup tn t (tn t + 1)) (hldY m own t Y) ∧ KpV V V' := by
  obtain ⟨p, hp⟩ : ∃ p : Nat, yv Y 228 t = (p : Int) := ⟨(yv Y 228 t).toNat, by have := hg.1; omega⟩
  have hyp : yp Y t = p := by unfold yp; show (yv Y 228 t).toNat = p; omega
  obtain ⟨i, hi⟩ : ∃ i : Nat, yv Y 248 t = (i : Int) := ⟨(yv Y 248 t).toNat, by omega⟩
  obtain ⟨n, hn⟩ : ∃ n : Nat, yv Y 247 t = (n : Int) := ⟨(yv Y 247 t).toNat, by omega⟩
  have s5 := h.2.2.2.2.1
  have r228 : vI V 228 t = (p : Int) := by rw [s5 228 t (by unfold scA; omega)]; exact hp
  have r248 : vI V 248 t = (i : Int) := by rw [s5 248 t (by unfold scA; omega)]; exact hi
  have key := v_findHolder (p := p) (q := 3 * t + i) h ht hg hyp (by omega) hf
  unfold hldY
  rw [hyp, show (yv Y 248 t).toNat = i by omega]
  have run : f_X16_holder (t : Int) V = l_X16_holder_24 (t : Int) (p : Int) ((3 * t + i : Nat) : Int) 0 0 V := by
    unfold f_X16_holder
    rw [l2_n ht (by omega), r228, Option.bind_some, l2_n ht (by omega), r248, Option.bind_some, c3m, cadd]
  rw [run]
  cases hh : hldE (own p) (qK (yq Y) (3 * t + i)) (wS (yw Y) p) (frontE m (yl Y t).2.2.1) with
  | none =>
    rw [hh] at key
    dsimp only at key ⊢
    obtain ⟨U, a1, a2⟩ := key
    obtain ⟨r, hr1⟩ : ∃ r : Nat, yv Y 229 t = (r : Int) := ⟨(yv Y 229 t).toNat, by omega⟩
    have YU := vy_9 h (a2.fr (fun a j z => by rw [PSc9 z]; rfl))
    have u269 : vI U 269 r = ((0 : Nat) : Int) := by
      rw [YU.2.2.2.2.1 269 r (by unfold scA; omega)]
      rw [show (yv Y 229 t).toNat = r by omega] at h269
      exact h269
    obtain ⟨V', e1, e2, e3⟩ := vy_tell (W := U) (l := []) (n := 0) YU ht htn hr1 (by omega) (by decide) (by omega) (fun _ _ _ _ _ => rfl) u269 (fun _ _ _ => rfl) (fun i hi => absurd hi (Nat.not_lt_zero _))
    refine ⟨V', ?_, e2, KpV.trans (KpV_frs a2 (fun a i z => kp_9 z)) e3⟩
    rw [a1]
    unfold j_X16_holder_143
    rw [if_pos (by decide), e1]; rfl
  | some x =>
    rw [hh] at key
    dsimp only at key ⊢
    obtain ⟨U, a1, a2, a3, a4, a5⟩ := key
    obtain ⟨q, hq⟩ : ∃ q, q = 3 * t + i := ⟨_, rfl⟩
    rw [← hq] at a1 a2 a3 a4 a5 ⊢
    obtain ⟨hc, hhc⟩ : ∃ hc, hc = hcE (own p) (qK (yq Y) q) (wS (yw Y) p) x := ⟨_, rfl⟩
    rw [← hhc] at a4 ⊢
    -- with the holder
    obtain ⟨Y1, hY1⟩ : ∃ Y1 : Ys, Y1 = (yw Y, yl Y, st2 (st2 (st2 (ys Y) 250 q (eAdr x)) 252 q hc) 248 t (yv Y 248 t + 1), hdQ q (eKey x) (yq Y)) := ⟨_, rfl⟩
    obtain ⟨V1, hV1⟩ : ∃ V1, V1 = st2 U 248 t ((i : Int) + 1) := ⟨_, rfl⟩
    have w3 : w32 (eAdr x) = eAdr x := by rw [← a3]; exact w32_vI
    have w4 : w32 hc = hc := by rw [← a4]; exact w32_vI
    have ug : ∀ a j, ¬ PSc a j → ¬ ((a = 250 ∨ a = 252) ∧ j = q) → ¬ (a = 251 ∧ 5 * q ≤ j ∧ j < 5 * q + 5) → vI U a j = vI V a j := fun a j z1 z2 z3 => a2.vI (fun y => by rcases y with y | y | y; exact z1 y; exact z2 y; exact z3 y)
    have VY1 : VY V1 m al N own sd ps sn pu rf tm Lb oth Z ev tn Y1 := by
      rw [hY1]
      refine vy_q h (fun a j z => ?_) (fun a j z => ?_) ?_ (fun b t' z => by rw [vI_ne (by omega), vI_ne (by omega), vI_ne (by omega)])
      · rw [hV1, st2_ne (by omega)]
        exact a2 a j (fun y => z (by rcases y with y | y | y; exact Or.inr (Or.inr (PSc9 y)); exact Or.inl (by omega); exact Or.inl (by omega)))
      · rw [hV1, vI_st2, vI_st2, vI_st2, vI_st2]
        by_cases c1 : a = 248 ∧ j = t
        · rw [if_pos c1, if_pos c1, hi]
        · rw [if_neg c1, if_neg c1]
          by_cases c2 : a = 252 ∧ j = q
          · rw [if_pos c2, c2.1, c2.2, a4, w4]
          · rw [if_neg c2]
            by_cases c3 : a = 250 ∧ j = q
            · rw [if_pos c3, c3.1, c3.2, a3, w3]
            · rw [if_neg c3, ug a j (by unfold PSc; unfold scA at z; omega) (by omega) (by unfold scA at z; omega)]
              exact s5 a j z
      · obtain ⟨b1, b2, b3⟩ := h.2.2.2.2.2.1
        have gv : ∀ a j, (a = 249 ∨ a = 253 ∨ a = 255 ∨ (257 ≤ a ∧ a ≤ 262) ∨ a = 270) → vI V1 a j = vI V a j := fun a j z => by
          rw [hV1, vI_ne (by omega), ug a j (by unfold PSc; omega) (by omega) (by omega)]
        refine ⟨fun t' ht' => ?_, fun j hj => ?_, fun r hr => ⟨(b3 r hr).1, fun j hj => by rw [gv 270 _ (by omega)]; exact (b3 r hr).2 j hj⟩⟩
        · obtain ⟨c1, c2, c3, c4, c5, c6, c7, c8, c9, c10⟩ := b1 t' ht'
          exact ⟨by rw [gv 258 _ (by omega)]; exact c1, c2, fun j hj => by rw [gv 259 _ (by omega), gv 260 _ (by omega), gv 261 _ (by omega)]; exact c3 j hj, c4, fun j hj => by rw [gv 262 _ (by omega)]; exact c5 j hj, by rw [gv 255 _ (by omega)]; exact c6, c7, fun j hj => by rw [gv 257 _ (by omega)]; exact c8 j hj, c9, fun j hj => by rw [gv 253 _ (by omega)]; exact c10 j hj⟩
        · refine ⟨by rw [gk_ag (a := 249) (fun y => gv 249 y (by omega))]; exact (b2 j hj).1, ?_⟩
          show gk V1 251 (5 * j) = fup (qH (yq Y)) q (eKey x) j
          unfold fup
          rw [hV1, gk_st2 (by decide)]
          by_cases c : j = q
          · rw [if_pos c, c]; exact a5
          · rw [if_neg c, ← (b2 j hj).2]
            exact gk_ext (fun y hy => ug 251 _ (by unfold PSc; omega) (by omega) (by omega))
    have K1 : KpV V V1 := KpV_ag fun a j z => by
      rw [hV1, st2_ne (by unfold kpA at z; omega)]
      exact a2 a j (fun y => by rcases y with y | y | y; exact kp_9 y z; unfold kpA at z; omega; unfold kpA at z; omega)
    have g1 : ∀ b, b ≠ 250 → b ≠ 252 → b ≠ 248 → ∀ j, yv Y1 b j = yv Y b j := fun b z1 z2 z3 j => by
      rw [hY1]
      show vI (st2 (st2 (st2 (ys Y) 250 q (eAdr x)) 252 q hc) 248 t (yv Y 248 t + 1)) b j = _
      rw [vI_ne (fun y => z3 y.1), vI_ne (fun y => z2 y.1), vI_ne (fun y => z1 y.1)]
    have hg1 : goW N Y1 t := by unfold goW; rw [g1 228 (by decide) (by decide) (by decide), g1 229 (by decide) (by decide) (by decide)]; exact hg
    have v247 : vI V1 247 t = (n : Int) := by rw [VY1.2.2.2.2.1 247 t (by unfold scA; omega)]; exact (g1 247 (by decide) (by decide) (by decide) t).trans hn
    have v248 : vI V1 248 t = ((i + 1 : Nat) : Int) := by rw [hV1, vI_eq rfl, show (i : Int) + 1 = ((i + 1 : Nat) : Int) from rfl, w32_nn (by omega)]
    have u248 : vI U 248 t = (i : Int) := by rw [ug 248 t (by unfold PSc; omega) (by omega) (by omega)]; exact r248
    have run2 : j_X16_holder_143 (t : Int) (q : Int) 1 U = if i + 1 < n then (f_X16_beginLookup (t : Int) 249 ((5 * (q + 1) : Nat) : Int) 1 V1).bind fun V2 => some V2 else l_X16_holder_199 (t : Int) 0 V1 := by
      unfold j_X16_holder_143
      rw [if_neg (by decide), l2_n ht (by omega), u248, Option.bind_some, s2_n ht (by omega), Option.bind_some, ← hV1, l2_n ht (by omega), v248, Option.bind_some, l2_n ht (by omega), v247, Option.bind_some, w32_nn (by omega), w32_nn (by omega), cadd1, c5m]
      by_cases c : i + 1 < n
      · rw [if_pos (by omega), if_pos c]
      · rw [if_neg (by omega), if_neg c]
    rw [a1, run2, ← hY1]
    unfold hldZ
    rw [g1 247 (by decide) (by decide) (by decide), hn, ← hq]
    by_cases c : i + 1 < n
    · rw [if_pos c, if_pos (by omega)]
      obtain ⟨V', e1, e2, e3⟩ := vy_look (vals := true) (e := 249) (n := 660) (q := 5 * (q + 1)) VY1 ht htn hg1 m249 (by omega) (by decide) (by decide)
      have k249 : gk V1 249 (5 * (q + 1)) = qK (yq Y1) (q + 1) := (VY1.2.2.2.2.2.1.2.1 (q + 1) (by omega)).1
      rw [k249] at e2
      exact ⟨V', by rw [show f_X16_beginLookup (t : Int) 249 ((5 * (q + 1) : Nat) : Int) 1 V1 = _ from e1]; rfl, e2, K1.trans e3⟩
    · rw [if_neg c, if_neg (by omega)]
      obtain ⟨cf, hcf⟩ : ∃ cf : Nat → Int, cf = fun k => yv Y1 252 (3 * t + k) := ⟨_, rfl⟩
      obtain ⟨U2, b1, b2, b3⟩ := v_arrange (c := cf) (n := n) ht (by omega) v247 (fun x hx => by rw [hcf, VY1.2.2.2.2.1 252 _ (by unfold scA; omega)])
      have alen := arr_len cf n
      -- the order, then an empty list
      obtain ⟨V3, hV3⟩ : ∃ V3, V3 = st2 (st2 (st2 U2 258 t 0) 254 t 0) 255 t 0 := ⟨_, rfl⟩
      obtain ⟨Y3, hY3⟩ : ∃ Y3 : Ys, Y3 = (yw Y1, yl Y1, st2 (ys Y1) 254 t 0, arQ t (arrO cf n) (yq Y1)) := ⟨_, rfl⟩
      have u2v : ∀ a j, a ≠ 253 → vI U2 a j = vI V1 a j := fun a j z => by show w32 _ = w32 _; rw [b3 a j (fun y => z y.1)]
      have VY3 : VY V3 m al N own sd ps sn pu rf tm Lb oth Z ev tn Y3 := by
        rw [hY3]
        refine vy_q VY1 (fun a j z => ?_) (fun a j z => ?_) ?_ (fun b t' z => by rw [vI_ne (by omega)])
        · rw [hV3, st2_ne (by omega), st2_ne (by omega), st2_ne (by omega)]
          exact b3 a j (by omega)
        · rw [hV3, vI_ne (by unfold scA at z; omega), vI_st2, vI_st2, vI_st2, if_neg (show ¬ (a = 258 ∧ j = t) by unfold scA at z; omega)]
          by_cases c1 : a = 254 ∧ j = t
          · rw [if_pos c1, if_pos c1]
          · rw [if_neg c1, if_neg c1, u2v a j (by unfold scA at z; omega)]
            exact VY1.2.2.2.2.1 a j z
        · obtain ⟨d1, d2, d3⟩ := VY1.2.2.2.2.2.1
          have gv : ∀ a j, (a = 249 ∨ a = 251 ∨ a = 257 ∨ a = 259 ∨ a = 260 ∨ a = 261 ∨ a = 262 ∨ a = 270) → vI V3 a j = vI V1 a j := fun a j z => by
            rw [hV3, vI_ne (by omega), vI_ne (by omega), vI_ne (by omega), u2v a j (by omega)]
          refine ⟨fun t' ht' => ?_, fun j hj => ?_, fun r hr => ⟨(d3 r hr).1, fun j hj => by rw [gv 270 _ (by omega)]; exact (d3 r hr).2 j hj⟩⟩
          · obtain ⟨c1, c2, c3, c4, c5, c6, c7, c8, c9, c10⟩ := d1 t' ht'
            show vI V3 258 t' = (((fup (qL (yq Y1)) t []) t').length : Int) ∧ ((fup (qL (yq Y1)) t []) t').length ≤ 200 ∧ (∀ i, i < ((fup (qL (yq Y1)) t []) t').length → vI V3 259 (200 * t' + i) = (((fup (qL (yq Y1)) t []) t').getD i (0, 0, 0)).1 ∧ vI V3 260 (200 * t' + i) = (((fup (qL (yq Y1)) t []) t').getD i (0, 0, 0)).2.1 ∧ vI V3 261 (200 * t' + i) = (((fup (qL (yq Y1)) t []) t').getD i (0, 0, 0)).2.2) ∧ ((fup (qF (yq Y1)) t []) t').length ≤ 200 ∧ (∀ i, i < ((fup (qF (yq Y1)) t []) t').length → vI V3 262 (200 * t' + i) = b2i (((fup (qF (yq Y1)) t []) t').getD i false)) ∧ vI V3 255 t' = (((fup (qB (yq Y1)) t []) t').length : Int) ∧ ((fup (qB (yq Y1)) t []) t').length ≤ 290 ∧ (∀ i, i < ((fup (qB (yq Y1)) t []) t').length → vI V3 257 (290 * t' + i) = ((fup (qB (yq Y1)) t []) t').getD i 0) ∧ ((fup (qO (yq Y1)) t (arrO cf n)) t').length ≤ 3 ∧ ∀ j, j < ((fup (qO (yq Y1)) t (arrO cf n)) t').length → vI V3 253 (3 * t' + j) = ((3 * t' + ((fup (qO (yq Y1)) t (arrO cf n)) t').getD j 0 : Nat) : Int)
            unfold fup
            by_cases c : t' = t
            · rw [if_pos c, if_pos c, if_pos c, if_pos c, c]
              refine ⟨by rw [hV3, vI_ne (by omega), vI_ne (by omega), vI_eq rfl]; rfl, Nat.zero_le _, fun i hi => absurd hi (Nat.not_lt_zero _), Nat.zero_le _, fun i hi => absurd hi (Nat.not_lt_zero _), by rw [hV3, vI_eq rfl]; rfl, Nat.zero_le _, fun i hi => absurd hi (Nat.not_lt_zero _), by omega, fun j hj => ?_⟩
              rw [hV3, vI_ne (by omega), vI_ne (by omega), vI_ne (by omega)]
              exact b2 j (by omega)
            · rw [if_neg c, if_neg c, if_neg c, if_neg c]
              refine ⟨by rw [hV3, vI_ne (by omega), vI_ne (by omega), vI_ne (by omega), u2v 258 _ (by decide)]; exact c1, c2, fun j hj => by rw [gv 259 _ (by omega), gv 260 _ (by omega), gv 261 _ (by omega)]; exact c3 j hj, c4, fun j hj => by rw [gv 262 _ (by omega)]; exact c5 j hj, by rw [hV3, vI_ne (by omega), vI_ne (by omega), vI_ne (by omega), u2v 255 _ (by decide)]; exact c6, c7, fun j hj => by rw [gv 257 _ (by omega)]; exact c8 j hj, c9, fun j hj => ?_⟩
              rw [hV3, vI_ne (by omega), vI_ne (by omega), vI_ne (by omega), ← c10 j hj]
              show w32 _ = w32 _
              rw [b3 253 _ (by omega)]
          · exact ⟨by rw [gk_ag (a := 249) (fun y => gv 249 y (by omega))]; exact (d2 j hj).1, by rw [gk_ag (a := 251) (fun y => gv 251 y (by omega))]; exact (d2 j hj).2⟩
      -- a turn more
      obtain ⟨e1, Y4, K4⟩ := vy_turn VY3 ht htn
      have e231 : vI U2 231 t = (tn t : Int) := by rw [u2v 231 t (by decide)]; exact (VY1.2.2.2.1 t ht).2.2.2
      have Y5 := vy_st (a := 230) (i := t) (v := if (n : Int) = 1 then 4 else 3) Y4 (by omega)
      obtain ⟨V5, hV5⟩ : ∃ V5, V5 = st2 (st2 V3 231 t ((tn t : Int) + 1)) 230 t (if (n : Int) = 1 then 4 else 3) := ⟨_, rfl⟩
      rw [← hV5] at Y5
      have swp : st2 (st2 (st2 (st2 (st2 U2 258 t 0) 254 t 0) 231 t ((tn t : Int) + 1)) 255 t 0) 230 t (if (n : Int) = 1 then 4 else 3) = V5 := by
        rw [hV5, hV3]
        congr 1
        funext a j
        unfold st2
        by_cases c1 : a = 255 ∧ j = t
        · rw [if_pos c1, if_neg (by omega), if_pos c1]
        · rw [if_neg c1, if_neg c1]
      refine ⟨V5, ?_, ?_, ?_⟩
      · rw [b1]
        unfold j_X16_holder_313 j_X16_holder_364
        rw [s2_n ht (by omega), Option.bind_some, s2_n ht (by omega), Option.bind_some, l2_n ht (by omega), vI_ne (by omega), vI_ne (by omega), e231, Option.bind_some, s2_n ht (by omega), Option.bind_some, s2_n ht (by omega), Option.bind_some, l2_n ht (by omega), vI_ne (by omega), vI_ne (by omega), vI_ne (by omega), vI_ne (by omega), u2v 247 t (by decide), v247, Option.bind_some, w32_nn (by omega), s2_n ht (by omega), s2_n ht (by omega), ← swp]
        by_cases c1 : n = 1
        · rw [if_pos (show ((n : Nat) : Int) = w32 1 by rw [c1]; rfl), if_pos (show ((n : Nat) : Int) = 1 by omega)]; rfl
        · rw [if_neg (show ¬ ((n : Nat) : Int) = w32 1 by show ¬ ((n : Nat) : Int) = 1; omega), if_neg (show ¬ ((n : Nat) : Int) = 1 by omega)]; rfl
      · rw [hY3] at Y5
        rw [show ((n : Nat) : Int).toNat = n from Int.toNat_natCast n, ← hcf]
        exact Y5
      · refine K1.trans (KpV.trans (KpV_ag (fun a j z => ?_)) (KpV.trans K4 ?_))
        · rw [hV3, st2_ne (by unfold kpA at z; omega), st2_ne (by unfold kpA at z; omega), st2_ne (by unfold kpA at z; omega)]
          exact b3 a j (by unfold kpA at z; omega)
        · rw [hV5]; exact KpV_st (by unfold kpA; omega)
end VHOLD2
