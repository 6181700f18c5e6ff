theorem e_vHashes {V : VV} {p : Nat} (hp : p < 460) : f_X16_isHashes (p : Int) V = some (b2i (decide (1 ≤ vI V 271 p) && decide (vI V 271 p ≤ 8))) := by
  have hw : w32 (p : Int) = (p : Int) := w32_id (by omega) (by omega)
  unfold f_X16_isHashes j_X16_isHashes_24 j_X16_isHashes_25
  rw [l2_e hw hp, Option.bind_some, w32_vI, Option.bind_some, w32_vI, show w32 9 = 9 by decide, bz_e (Or.inl rfl), bz_e (Or.inr rfl)]
  by_cases h1 : 1 ≤ vI V 271 p
  · by_cases h2 : vI V 271 p ≤ 8
    · rw [if_pos (by omega), if_pos (by omega), decide_eq_true h1, decide_eq_true h2]; rfl
    · rw [if_pos (by omega), if_neg (by omega), decide_eq_false h2, Bool.and_false]; rfl
  · rw [if_neg (by omega), decide_eq_false h1]; rfl
/-- wellFormed: what came is n bytes -/
theorem e_wellFormed {V : VV} {n : Nat} (hn : vI V 156 138 = (n : Int)) (hn4 : n ≤ 460) (hB : isBV V 271 n) : f_X16_wellFormed V = some (b2i (wellB n (fun i => vI V 271 i))) := by
  let f : Nat → Int := fun i => vI V 271 i
  have hc : w32 (V 156 138) = (n : Int) := hn
  have hwn : w32 (n : Int) = (n : Int) := w32_id (by omega) (by omega)
  have bb : ∀ i, i < n → 0 ≤ f i ∧ f i < 256 := hB
  have y01 : ∀ b : Bool, j_X16_wellFormed_106 (b2i b) V = some (b2i b) ∧ j_X16_wellFormed_121 (b2i b) V = some (b2i b) := fun b => ⟨bz_b2i, bz_b2i⟩
  have sel : ∀ (b : Bool) (X Y : Option Int), X = some 1 → Y = some 0 → (if w32 (b2i b) = 0 then Y else X) = some (b2i b) := by
    intro b X Y h1 h2
    rw [w32_b2i, h1, h2]
    cases b <;> rfl
  have nd : ∀ (c : Nat) (J : Int → Option Int) (A : Int), (c = 25 ∨ c = 27) → (21 ≤ A) → A ≤ 1000 →
      (∀ y : Int, 0 ≤ y → y ≤ 1000 → J y = if y < 21 then (if (n : Int) = ((c + 1 : Nat) : Int) + 21 * y then (f_X16_areNodes ((c + 1 : Nat) : Int) y V).bind (fun v1 => if w32 v1 = 0 then some 0 else some 1) else some 0) else some 0) →
      (if (n : Int) < ((c + 1 : Nat) : Int) then J A else J (f c)) = some (b2i (ndW n f c)) := by
    intro c J A hcc hA1 hA2 hJ
    unfold ndW
    by_cases c1 : c < n
    · have := bb c c1
      rw [if_neg (by omega), hJ _ (by omega) (by omega), decide_eq_true c1]
      by_cases c2 : f c ≤ 20
      · rw [if_pos (by omega), decide_eq_true c2]
        by_cases c3 : (n : Int) = c + 1 + 21 * f c
        · rw [if_pos (by omega), decide_eq_true c3]
          have hm : ((f c).toNat : Int) = f c := Int.toNat_of_nonneg this.1
          have hv := e_vNodes (V := V) (p := c + 1) (m := (f c).toNat) (by omega) (by omega)
          rw [hm] at hv
          rw [hv, Option.bind_some]
          refine Eq.trans (sel _ _ _ rfl rfl) ?_
          simp
          rfl
        · rw [if_neg (by omega), decide_eq_false c3]; rfl
      · rw [if_neg (by omega), decide_eq_false c2]; rfl
    · rw [if_pos (by omega), hJ A (by omega) hA2, if_neg (by omega), decide_eq_false c1]; rfl
  have ps : ∀ (c w : Nat) (lo hi : Int) (J : Int → Option Int) (A : Int), (c = 25 ∨ c = 26 ∨ c = 45) → (w = 2 ∨ w = 3) → (lo = 0 ∨ lo = 1) → (hi = 16 ∨ hi = 30) → (hi < A) → A ≤ 1000 →
      (∀ y : Int, 0 ≤ y → y ≤ 1000 → J y = if lo ≤ y ∧ y ≤ hi then (if (n : Int) = ((c + 1 : Nat) : Int) + (w : Int) * y then (f_X16_areRows ((c + 1 : Nat) : Int) y (w : Int) V).bind (fun v1 => if w32 v1 = 0 then some 0 else some 1) else some 0) else some 0) →
      (if (n : Int) < ((c + 1 : Nat) : Int) then J A else J (f c)) = some (b2i (psW n f c lo hi w)) := by
    intro c w lo hi J A hcc hw hlo hhi hA1 hA2 hJ
    unfold psW
    by_cases c1 : c < n
    · have := bb c c1
      rw [if_neg (by omega), hJ _ (by omega) (by omega), decide_eq_true c1]
      by_cases c0 : lo ≤ f c
      · by_cases c2 : f c ≤ hi
        · rw [if_pos ⟨c0, c2⟩, decide_eq_true c0, decide_eq_true c2]
          by_cases c3 : (n : Int) = c + 1 + (w : Int) * f c
          · rw [if_pos (by omega), decide_eq_true c3]
            have hm : ((f c).toNat : Int) = f c := Int.toNat_of_nonneg this.1
            have hl : c + 1 + w * (f c).toNat ≤ 460 := by
              have e : ((c + 1 + w * (f c).toNat : Nat) : Int) = (n : Int) := by rw [Int.natCast_add, Int.natCast_mul, hm]; omega
              omega
            have hv := e_vRows (V := V) (p := c + 1) (m := (f c).toNat) hw hl (by omega)
            rw [hm] at hv
            rw [hv, Option.bind_some]
            refine Eq.trans (sel _ _ _ rfl rfl) ?_
            simp
            rfl
          · rw [if_neg (by omega), decide_eq_false c3]; rfl
        · rw [if_neg (fun q => c2 q.2), decide_eq_false c2, Bool.and_false]; rfl
      · rw [if_neg (fun q => c0 q.1), decide_eq_false c0]; rfl
    · rw [if_pos (by omega), hJ A (by omega) hA2, if_neg (by omega), decide_eq_false c1]; rfl
  have bt : ∀ (c : Nat) (J : Int → Option Int), (c = 27 ∨ c = 47) →
      (∀ y : Int, 0 ≤ y → y ≤ 100000 → J y = if y < 291 then (if (n : Int) = ((c + 3 : Nat) : Int) + y then (f_X16_isHashes (c : Int) V).bind (fun v1 => if w32 v1 = 0 then some 0 else some 1) else some 0) else some 0) →
      (if (n : Int) < ((c + 3 : Nat) : Int) then J 999 else (f_X16_pairAt ((c + 1 : Nat) : Int) V).bind (fun v => J v)) = some (b2i (btW n f c)) := by
    intro c J hcc hJ
    unfold btW
    by_cases c1 : c + 2 < n
    · have h1 := bb (c + 1) (by omega)
      have h2 := bb (c + 2) (by omega)
      have hp := e_pairAt (V := V) (p := c + 1) (i := ((c + 1 : Nat) : Int)) rfl (by omega) h1 h2
      rw [if_neg (by omega), hp, Option.bind_some]
      show J (f (c + 1) * 256 + f (c + 2)) = _
      rw [hJ _ (by omega) (by omega), decide_eq_true c1]
      by_cases c2 : f (c + 1) * 256 + f (c + 2) ≤ 290
      · rw [if_pos (by omega), decide_eq_true c2]
        by_cases c3 : (n : Int) = c + 3 + (f (c + 1) * 256 + f (c + 2))
        · rw [if_pos (by omega), decide_eq_true c3, e_vHashes (by omega), Option.bind_some]
          refine Eq.trans (sel _ _ _ rfl rfl) ?_
          simp
          rfl
        · rw [if_neg (by omega), decide_eq_false c3, Bool.and_false]; rfl
      · rw [if_neg (by omega), decide_eq_false c2, Bool.and_false]; rfl
    · rw [if_pos (by omega), hJ 999 (by decide) (by decide), if_neg (by decide), decide_eq_false c1]; rfl
  unfold f_X16_wellFormed
  rw [hc, hwn, show w32 25 = 25 by decide]
  by_cases c0 : 25 ≤ n
  · rw [if_neg (by omega), l2_e (j := 0) rfl (by decide), Option.bind_some, w32_vI]
    have hw : wellB n f = wellT n f (vI V 271 0) := by unfold wellB; rw [decide_eq_true c0]; rfl
    show _ = some (b2i (wellB n f))
    rw [hw]
    have t := bb 0 (by omega)
    have r25 : (if (n : Int) = 25 then j_X16_wellFormed_106 1 V else j_X16_wellFormed_106 0 V) = some (b2i (decide (n = 25))) := by
      by_cases q : n = 25
      · rw [if_pos (by omega), decide_eq_true q]; exact (y01 true).1
      · rw [if_neg (by omega), decide_eq_false q]; exact (y01 false).1
    have r45 : (if (n : Int) = w32 45 then j_X16_wellFormed_121 1 V else j_X16_wellFormed_121 0 V) = some (b2i (decide (n = 45))) := by
      rw [show w32 45 = 45 by decide]
      by_cases q : n = 45
      · rw [if_pos (by omega), decide_eq_true q]; exact (y01 true).2
      · rw [if_neg (by omega), decide_eq_false q]; exact (y01 false).2
    have Jn : ∀ (y k : Int), 0 ≤ y → y ≤ 1000 → 0 ≤ k → k ≤ 100 → w32 y = y ∧ w32 (k + 21 * y) = k + 21 * y := fun y k h1 h2 h3 h4 => ⟨w32_id (by omega) (by omega), w32_id (by omega) (by omega)⟩
    have r4 : (if (n : Int) < w32 26 then j_X16_wellFormed_143 99 V else (l2 271 460 25 V).bind fun v2 => j_X16_wellFormed_143 v2 V) = some (b2i (ndW n f 25)) := by
      rw [l2_e (j := 25) rfl (by decide), Option.bind_some, show w32 26 = 26 by decide]
      refine nd 25 (fun y => j_X16_wellFormed_143 y V) 99 (Or.inl rfl) (by decide) (by decide) (fun y h1 h2 => ?_)
      show j_X16_wellFormed_143 y V = _
      unfold j_X16_wellFormed_143 j_X16_wellFormed_178 j_X16_wellFormed_179
      rw [hc, hwn, (Jn y 26 h1 h2 (by decide) (by decide)).1, (Jn y 26 h1 h2 (by decide) (by decide)).2, show w32 21 = 21 by decide, bz_e (Or.inl rfl), bz_e (Or.inr rfl)]
      rfl
    have r6 : (if (n : Int) < w32 28 then j_X16_wellFormed_201 99 V else (l2 271 460 27 V).bind fun v3 => j_X16_wellFormed_201 v3 V) = some (b2i (ndW n f 27)) := by
      rw [l2_e (j := 27) rfl (by decide), Option.bind_some, show w32 28 = 28 by decide]
      refine nd 27 (fun y => j_X16_wellFormed_201 y V) 99 (Or.inr rfl) (by decide) (by decide) (fun y h1 h2 => ?_)
      show j_X16_wellFormed_201 y V = _
      unfold j_X16_wellFormed_201 j_X16_wellFormed_236 j_X16_wellFormed_237
      rw [hc, hwn, (Jn y 28 h1 h2 (by decide) (by decide)).1, (Jn y 28 h1 h2 (by decide) (by decide)).2, show w32 21 = 21 by decide, bz_e (Or.inl rfl), bz_e (Or.inr rfl)]
      rfl
    have Jp : ∀ (y k w : Int), 0 ≤ y → y ≤ 1000 → 0 ≤ k → k ≤ 100 → (w = 2 ∨ w = 3) → w32 y = y ∧ w32 (k + w * y) = k + w * y := fun y k w h1 h2 h3 h4 h5 => ⟨w32_id (by omega) (by omega), by rcases h5 with rfl | rfl <;> exact w32_id (by omega) (by omega)⟩
    have r7 : (if (n : Int) < w32 46 then j_X16_wellFormed_259 99 V else (l2 271 460 45 V).bind fun v4 => j_X16_wellFormed_259 v4 V) = some (b2i (psW n f 45 1 16 3)) := by
      rw [l2_e (j := 45) rfl (by decide), Option.bind_some, show w32 46 = 46 by decide]
      refine ps 45 3 1 16 (fun y => j_X16_wellFormed_259 y V) 99 (by decide) (by decide) (by decide) (by decide) (by decide) (by decide) (fun y h1 h2 => ?_)
      show j_X16_wellFormed_259 y V = _
      unfold j_X16_wellFormed_259 j_X16_wellFormed_298 j_X16_wellFormed_299
      rw [hc, hwn, (Jp y 46 3 h1 h2 (by decide) (by decide) (by decide)).1, (Jp y 46 3 h1 h2 (by decide) (by decide) (by decide)).2, show w32 17 = 17 by decide, bz_e (Or.inl rfl), bz_e (Or.inr rfl)]
      by_cases q1 : 0 < y
      · by_cases q2 : y < 17
        · rw [if_pos q1, if_pos q2, if_pos (show (1 : Int) ≤ y ∧ y ≤ 16 by omega)]; rfl
        · rw [if_pos q1, if_neg q2, if_neg (show ¬ ((1 : Int) ≤ y ∧ y ≤ 16) by omega)]
      · rw [if_neg q1, if_neg (show ¬ ((1 : Int) ≤ y ∧ y ≤ 16) by omega)]
    have r13 : (if (n : Int) < w32 46 then j_X16_wellFormed_500 99 V else (l2 271 460 45 V).bind fun v8 => j_X16_wellFormed_500 v8 V) = some (b2i (psW n f 45 1 30 2)) := by
      rw [l2_e (j := 45) rfl (by decide), Option.bind_some, show w32 46 = 46 by decide]
      refine ps 45 2 1 30 (fun y => j_X16_wellFormed_500 y V) 99 (by decide) (by decide) (by decide) (by decide) (by decide) (by decide) (fun y h1 h2 => ?_)
      show j_X16_wellFormed_500 y V = _
      unfold j_X16_wellFormed_500 j_X16_wellFormed_539 j_X16_wellFormed_540
      rw [hc, hwn, (Jp y 46 2 h1 h2 (by decide) (by decide) (by decide)).1, (Jp y 46 2 h1 h2 (by decide) (by decide) (by decide)).2, show w32 31 = 31 by decide, bz_e (Or.inl rfl), bz_e (Or.inr rfl)]
      by_cases q1 : 0 < y
      · by_cases q2 : y < 31
        · rw [if_pos q1, if_pos q2, if_pos (show (1 : Int) ≤ y ∧ y ≤ 30 by omega)]; rfl
        · rw [if_pos q1, if_neg q2, if_neg (show ¬ ((1 : Int) ≤ y ∧ y ≤ 30) by omega)]
      · rw [if_neg q1, if_neg (show ¬ ((1 : Int) ≤ y ∧ y ≤ 30) by omega)]
    have r14 : (if (n : Int) < w32 26 then j_X16_wellFormed_562 99 V else (l2 271 460 25 V).bind fun v9 => j_X16_wellFormed_562 v9 V) = some (b2i (psW n f 25 0 30 3)) := by
      rw [l2_e (j := 25) rfl (by decide), Option.bind_some, show w32 26 = 26 by decide]
      refine ps 25 3 0 30 (fun y => j_X16_wellFormed_562 y V) 99 (by decide) (by decide) (by decide) (by decide) (by decide) (by decide) (fun y h1 h2 => ?_)
      show j_X16_wellFormed_562 y V = _
      unfold j_X16_wellFormed_562 j_X16_wellFormed_597 j_X16_wellFormed_598
      rw [hc, hwn, (Jp y 26 3 h1 h2 (by decide) (by decide) (by decide)).1, (Jp y 26 3 h1 h2 (by decide) (by decide) (by decide)).2, show w32 31 = 31 by decide, bz_e (Or.inl rfl), bz_e (Or.inr rfl)]
      by_cases q2 : y < 31
      · rw [if_pos q2, if_pos (show (0 : Int) ≤ y ∧ y ≤ 30 by omega)]; rfl
      · rw [if_neg q2, if_neg (show ¬ ((0 : Int) ≤ y ∧ y ≤ 30) by omega)]
    have r10 : (if (n : Int) < w32 30 then j_X16_wellFormed_321 999 V else (f_X16_pairAt 28 V).bind fun v5 => j_X16_wellFormed_321 v5 V) = some (b2i (btW n f 27)) := by
      rw [show w32 30 = 30 by decide]
      refine bt 27 (fun y => j_X16_wellFormed_321 y V) (Or.inl rfl) (fun y h1 h2 => ?_)
      show j_X16_wellFormed_321 y V = _
      unfold j_X16_wellFormed_321 j_X16_wellFormed_353 j_X16_wellFormed_354
      rw [hc, hwn, w32_id (z := y) (by omega) (by omega), w32_id (z := 30 + y) (by omega) (by omega), show w32 291 = 291 by decide, bz_e (Or.inl rfl), bz_e (Or.inr rfl)]
      rfl
    have r11 : (if (n : Int) < w32 50 then j_X16_wellFormed_376 999 V else (f_X16_pairAt 48 V).bind fun v6 => j_X16_wellFormed_376 v6 V) = some (b2i (btW n f 47)) := by
      rw [show w32 50 = 50 by decide]
      refine bt 47 (fun y => j_X16_wellFormed_376 y V) (Or.inr rfl) (fun y h1 h2 => ?_)
      show j_X16_wellFormed_376 y V = _
      unfold j_X16_wellFormed_376 j_X16_wellFormed_408 j_X16_wellFormed_409
      rw [hc, hwn, w32_id (z := y) (by omega) (by omega), w32_id (z := 50 + y) (by omega) (by omega), show w32 291 = 291 by decide, bz_e (Or.inl rfl), bz_e (Or.inr rfl)]
      rfl
    have r12 : (if (n : Int) < w32 27 then j_X16_wellFormed_431 99 V else (l2 271 460 26 V).bind fun v7 => j_X16_wellFormed_431 v7 V) = some (b2i (decide (f 25 < 2) && psW n f 26 0 30 3)) := by
      rw [l2_e (j := 26) rfl (by decide), Option.bind_some, show w32 27 = 27 by decide]
      by_cases d2 : f 25 < 2
      · rw [decide_eq_true d2, Bool.true_and]
        refine ps 26 3 0 30 (fun y => j_X16_wellFormed_431 y V) 99 (by decide) (by decide) (by decide) (by decide) (by decide) (by decide) (fun y h1 h2 => ?_)
        show j_X16_wellFormed_431 y V = _
        unfold j_X16_wellFormed_431 j_X16_wellFormed_477 j_X16_wellFormed_478
        have d2' : vI V 271 25 < 2 := d2
        rw [hc, hwn, (Jp y 27 3 h1 h2 (by decide) (by decide) (by decide)).1, (Jp y 27 3 h1 h2 (by decide) (by decide) (by decide)).2, show w32 31 = 31 by decide, l2_e (j := 25) rfl (by decide), Option.bind_some, w32_vI, show w32 2 = 2 by decide, if_pos d2', bz_e (Or.inl rfl), bz_e (Or.inr rfl)]
        by_cases q2 : y < 31
        · rw [if_pos q2, if_pos (show (0 : Int) ≤ y ∧ y ≤ 30 by omega)]; rfl
        · rw [if_neg q2, if_neg (show ¬ ((0 : Int) ≤ y ∧ y ≤ 30) by omega)]
      · have d2' : ¬ vI V 271 25 < 2 := d2
        have z : ∀ y, j_X16_wellFormed_431 y V = some 0 := by
          intro y
          unfold j_X16_wellFormed_431 j_X16_wellFormed_477 j_X16_wellFormed_478
          rw [l2_e (j := 25) rfl (by decide), Option.bind_some, w32_vI, show w32 2 = 2 by decide, if_neg d2', bz_e (Or.inl rfl)]
          split
          · split <;> rfl
          · rfl
        rw [decide_eq_false d2, z, z]
        split <;> rfl
    rw [r25, r45, r4, r6, r7, r13, r14, r10, r11, r12]
    show swt (f 0) 1 _ _ = some (b2i (wellT n f (f 0)))
    generalize f 0 = t0 at t
    have : t0 = 1 ∨ t0 = 2 ∨ t0 = 3 ∨ t0 = 4 ∨ t0 = 5 ∨ t0 = 6 ∨ t0 = 7 ∨ t0 = 8 ∨ t0 = 9 ∨ t0 = 10 ∨ t0 = 11 ∨ t0 = 12 ∨ t0 = 13 ∨ t0 = 14 ∨ t0 = 15 ∨ (t0 < 1 ∨ 15 < t0) := by omega
    rcases this with rfl | rfl | rfl | rfl | rfl | rfl | rfl | rfl | rfl | rfl | rfl | rfl | rfl | rfl | rfl | ht
    · rfl
    · rfl
    · rfl
    · rfl
    · rfl
    · rfl
    · rfl
    · rfl
    · rfl
    · rfl
    · rfl
    · rfl
    · rfl
    · rfl
    · rfl
    · have hs : wellT n f t0 = false := by
        unfold wellT
        rw [if_neg (by omega), if_neg (by omega), if_neg (by omega), if_neg (by omega), if_neg (by omega), if_neg (by omega), if_neg (by omega), if_neg (by omega), if_neg (by omega), if_neg (by omega)]
      rw [hs]
      unfold swt
      exact if_neg (fun q => by
        have q2 : t0 - 1 < 15 := q.2
        omega)
  · rw [if_pos (by omega)]
    have : wellB n (fun i => vI V 271 i) = false := by unfold wellB; rw [decide_eq_false c0]; rfl
    rw [this]; rfl
