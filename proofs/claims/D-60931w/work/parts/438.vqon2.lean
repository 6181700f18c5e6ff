section VQON2
variable {V W : VV} {m al N p t oth Z : Nat} {own : Nat → Ky} {sd ps sn pu rf : Nat → Int} {tm : Int} {ev tn : Nat → Nat} {Lb : Nat → List Trm} {Y : Ys}
theorem m_9 {P : Nat → Nat → Prop} (hP : ∀ a i, P a i → mv a i = 9) (f : FrS P V W) : FrV (fun z => z == 9) V W := f.fr (fun a i z => by rw [hP a i z]; rfl)
theorem page_okM {S : List Post} (h : okSt S) {key : Ky} {hs skip : Nat} {bs : List Int} : okM (pageS skip (mtcS hs bs (choS key S))) := by
  refine ⟨by unfold pageS; rw [List.length_map, List.length_take]; omega, fun z hz => ?_⟩
  unfold pageS at hz
  obtain ⟨x, hx, rfl⟩ := List.mem_map.mp hz
  have h1 := List.mem_of_mem_drop (List.mem_of_mem_take hx)
  have h2 := (List.mem_filter.mp (List.mem_filter.mp h1).1).1
  have := h.2.2 x h2
  exact ⟨this.2.1, this.2.2.1, this.2.2.2.1⟩
theorem chk_okM {S : List Post} (h : okSt S) {key : Ky} {cl : List (Int × Int)} (hc : cl.length ≤ 30) : okM (chkS key cl S) := by
  refine ⟨Nat.le_trans (List.length_filterMap_le _ _) hc, fun z hz => ?_⟩
  unfold chkS at hz
  obtain ⟨c, _, hc2⟩ := List.mem_filterMap.mp hz
  cases hf : S.find? (fun y => decide (pid y = (key, c.1, c.2))) with
  | none => rw [hf] at hc2; cases hc2
  | some x =>
    rw [hf] at hc2
    have e : itm x = z := by simpa using hc2
    have := h.2.2 x (List.mem_of_find?_eq_some hf)
    rw [← e]
    exact ⟨this.2.1, this.2.2.1, this.2.2.2.1⟩
theorem v_queryOn (h : VY V m al N own sd ps sn pu rf tm Lb oth Z ev tn Y) (hB : bdg N ev oth) (ht : t < 44) (htn : tn t + 1 < 2000000000) (hg : goW N Y t) (hr : 0 ≤ yv Y 229 t ∧ yv Y 229 t < 256) (hq : qOK own Y t) : ∃ V' tn', f_X16_queryOn (t : Int) V = some (b2i (qonY N own sd tm t Y).1, V') ∧ VY V' m al N own sd ps sn pu rf tm Lb oth Z ev tn' (qonY N own sd tm t Y).2 ∧ KpV V V' ∧ TnS t 2 tn tn' := by
  obtain ⟨p, hp⟩ : ∃ p : Nat, yv Y 228 t = (p : Int) := ⟨(yv Y 228 t).toNat, by have := hg.1; omega⟩
  have hyp : yp Y t = p := by unfold yp; show (yv Y 228 t).toNat = p; omega
  have hqi := qI_lt hq
  obtain ⟨q1, q2, q3, q4, q5, q6, q7, q8, q9, q10, q11⟩ := id hq
  obtain ⟨n, hn⟩ : ∃ n : Nat, yv Y 247 t = (n : Int) := ⟨(yv Y 247 t).toNat, by omega⟩
  have s5 := h.2.2.2.2.1
  have r228 : vI V 228 t = (p : Int) := by rw [s5 228 t (by unfold scA; omega)]; exact hp
  have r230 : vI V 230 t = yv Y 230 t := s5 230 t (by unfold scA; omega)
  have r247 : vI V 247 t = (n : Int) := by rw [s5 247 t (by unfold scA; omega)]; exact hn
  obtain ⟨⟨L, hP, _⟩, ho, _⟩ := id h
  have pN : p < N := by have := hg.1; omega
  have p32 : p < 32 := by have := ho.2.2.1; omega
  obtain ⟨y, hy⟩ : ∃ y, y = (qO (yq Y) t).getD (qI Y t) 0 := ⟨_, rfl⟩
  have qlt : qI Y t < (qO (yq Y) t).length := by omega
  have yn : y < n := by have := q3.2 y (by rw [hy]; exact getD_mem qlt); omega
  obtain ⟨q, hqd⟩ : ∃ q, q = 3 * t + y := ⟨_, rfl⟩
  have hqq : qQ Y t = q := by unfold qQ; rw [← hy, hqd]
  have q132 : q < 132 := by omega
  have had := q5 y (by omega)
  rw [← hqd] at had
  have r253 : vI V 253 (3 * t + qI Y t) = (q : Int) := by
    rw [(h.2.2.2.2.2.1.1 t ht).2.2.2.2.2.2.2.2.2 (qI Y t) qlt, ← hy, hqd]
  have k249 : gk V 249 (5 * q) = qK (yq Y) q := (h.2.2.2.2.2.1.2.1 q q132).1
  have k251 : gk V 251 (5 * q) = qH (yq Y) q := (h.2.2.2.2.2.1.2.1 q q132).2
  obtain ⟨s, hs⟩ : ∃ s, s = yv Y 230 t := ⟨_, rfl⟩
  have w3 : w32 s = s := by rw [hs]; exact w32_vI
  -- which holder
  have run1 : f_X16_queryOn (t : Int) V = j_X16_queryOn_77 (t : Int) (p : Int) s (q : Int) V := by
    unfold f_X16_queryOn
    rw [l2_n ht (by omega), r228, Option.bind_some, l2_n ht (by omega), r230, Option.bind_some, ← hs, w3]
    unfold qI at r253
    rw [← hs] at r253
    by_cases c3 : s = 3
    · rw [if_pos (show s = w32 3 from c3), c3m]
      rw [if_pos c3] at r253
      rw [l2_n (by omega) (by omega), show vI V 253 (3 * t) = (q : Int) from r253, Option.bind_some]
    · rw [if_neg (show ¬ s = w32 3 from c3)]
      rw [if_neg c3] at r253
      by_cases c4 : s = 4
      · rw [if_pos (show s = w32 4 from c4), l2_n ht (by omega), r247, Option.bind_some, w32_nn (by omega)]
        rw [if_pos c4, hn] at r253
        unfold j_X16_queryOn_57
        by_cases c1 : n = 1
        · rw [if_pos (show ((n : Nat) : Int) = w32 1 by rw [c1]; rfl), c3m, show ((3 * t : Nat) : Int) + 0 = ((3 * t : Nat) : Int) by omega, l2_n (by omega) (by omega)]
          rw [if_pos (by omega)] at r253
          rw [show vI V 253 (3 * t) = (q : Int) from r253, Option.bind_some]
        · rw [if_neg (show ¬ ((n : Nat) : Int) = w32 1 by show ¬ ((n : Nat) : Int) = 1; omega), c3m, cadd1, l2_n (by omega) (by omega)]
          rw [if_neg (by omega)] at r253
          rw [r253, Option.bind_some]
      · rw [if_neg (show ¬ s = w32 4 from c4)]
        rw [if_neg c4] at r253
        obtain ⟨cw, hcw⟩ : ∃ cw : Nat, yv Y 263 t = (cw : Int) := ⟨(yv Y 263 t).toNat, by have := (q10 (by omega)).1; omega⟩
        have r263 : vI V 263 t = (cw : Int) := by rw [s5 263 t (by unfold scA; omega)]; exact hcw
        rw [l2_n ht (by omega), r263, Option.bind_some, c3m, cadd, l2_n (by have := (q10 (by omega)).1; omega) (by omega)]
        rw [hcw, Int.toNat_natCast] at r253
        rw [r253, Option.bind_some]
  -- a turn more
  have io := v_isOwn (e := 251) (q := 5 * q) h ht hg m251 (by omega) (by decide)
  rw [k251, hyp] at io
  obtain ⟨e1, Y1, K1⟩ := vy_turn h ht (by omega)
  obtain ⟨V1, hV1⟩ : ∃ V1, V1 = st2 V 231 t ((tn t : Int) + 1) := ⟨_, rfl⟩
  rw [← hV1] at Y1 K1
  obtain ⟨tn1, htn1⟩ : ∃ tn1, tn1 = fup tn t (tn t + 1) := ⟨_, rfl⟩
  rw [← htn1] at Y1
  have ts1 : TnS t 1 tn tn1 := by rw [htn1]; exact TnS.up
  have tn1b : tn1 t < 2000000000 := by have := ts1.2.2; omega
  have v1 : ∀ a i, a ≠ 231 → vI V1 a i = vI V a i := fun a i z => by rw [hV1, vI_ne (fun e => z e.1)]
  have k249' : gk V1 249 (5 * q) = qK (yq Y) q := by rw [← k249]; exact gk_ag (fun i => v1 249 i (by decide))
  have St1 : StV V1 p (wS (yw Y) p) := by obtain ⟨⟨L', hP', _⟩, _⟩ := id Y1; exact hP'.2.2.2.1 p p32
  have okS : okSt (wS (yw Y) p) := St1.2.1
  have st9 := ho.1.2.2.2.2.2.2.2.2.2.1
  obtain ⟨h9, hh9⟩ : ∃ h9 : Nat, wst (yw Y) 9 = (h9 : Int) := ⟨(wst (yw Y) 9).toNat, by omega⟩
  have r162 : vI V1 162 9 = (h9 : Int) := by rw [v1 162 9 (by decide), hP.1.1 9 (by decide)]; exact hh9
  have j77 : j_X16_queryOn_77 (t : Int) (p : Int) s (q : Int) V = (if s = 3 then if b2i (decide (qH (yq Y) q = own p)) = 0 then (f_X16_bodyKey 249 ((5 * q : Nat) : Int) V1).bind fun V2 => j_X16_queryOn_570 (t : Int) s (q : Int) V2 else (f_X16_choose (p : Int) 249 ((5 * q : Nat) : Int) V1).bind fun V3 => (f_X16_makeFilter V3).bind fun V4 => (f_X16_tookBits (t : Int) V4).bind fun V5 => some (1, V5) else if s = 4 then (l2 247 44 (t : Int) V1).bind fun v7 => if w32 v7 = w32 1 then (l2 162 11 9 V1).bind fun v8 => j_X16_queryOn_184 (t : Int) (p : Int) s (q : Int) (b2i (decide (qH (yq Y) q = own p))) v8 V1 else j_X16_queryOn_178 (t : Int) (p : Int) s (q : Int) (b2i (decide (qH (yq Y) q = own p))) V1 else (l2 258 44 (t : Int) V1).bind fun v3 => (l2 264 44 (t : Int) V1).bind fun v4 => if w32 (v3 - v4) < w32 30 then (l2 258 44 (t : Int) V1).bind fun v5 => (l2 264 44 (t : Int) V1).bind fun v6 => j_X16_queryOn_411 (t : Int) (p : Int) s (q : Int) (b2i (decide (qH (yq Y) q = own p))) (v5 - v6) V1 else j_X16_queryOn_411 (t : Int) (p : Int) s (q : Int) (b2i (decide (qH (yq Y) q = own p))) 30 V1) := by
    unfold j_X16_queryOn_77
    rw [c5m, show f_X16_isOwn (t : Int) 251 ((5 * q : Nat) : Int) V = _ from io, Option.bind_some, e1, Option.bind_some, s2_n ht (by omega), Option.bind_some, ← hV1, w3, w32_b2i]
    rfl
  rw [run1, j77]
  unfold qonY
  rw [hqq, hyp, ← hs]
  have LV1 : LiV V1 t (qL (yq Y) t) := ⟨(Y1.2.2.2.2.2.1.1 t ht).1, fun i hi => qs_gLi Y1.2.2.2.2.2.1 ht hi⟩
  obtain ⟨B, hBd⟩ : ∃ B, B = qB (yq Y) t := ⟨_, rfl⟩
  have B1 : vI V1 255 t = (B.length : Int) := by rw [hBd]; exact (Y1.2.2.2.2.2.1.1 t ht).2.2.2.2.2.1
  have B2 : ∀ i, i < B.length → vI V1 257 (290 * t + i) = B.getD i 0 := by rw [hBd]; exact (Y1.2.2.2.2.2.1.1 t ht).2.2.2.2.2.2.2.1
  rw [← hBd] at q7
  have l20 := (kbs_BL (qK (yq Y) q)).2
  have hg1 : goW N (setW Y (dtW t (yw Y))) t := hg
  by_cases c3 : s = 3
  · rw [if_pos c3, if_pos c3]
    by_cases co : qH (yq Y) q = own p
    · rw [if_pos co, decide_eq_true co, if_neg (by decide)]
      obtain ⟨V2, Lc, b1, b2, b3, b4, b5, b6⟩ := v_choose (e := 249) (q := 5 * q) (n := 660) St1 p32 m249 (by omega) (by decide) (by decide)
      rw [k249'] at b6
      have f2 : FrS PSc V1 V2 := fun a j z => b2 a j (fun y => z (Or.inl y)) (fun y => z (Or.inr y))
      have lc : Lc.length ≤ 200 := by
        have : Lc.length = (choS (qK (yq Y) q) (wS (yw Y) p)).length := by rw [← b6, List.length_map]
        have l2 : (choS (qK (yq Y) q) (wS (yw Y) p)).length ≤ (wS (yw Y) p).length := List.length_filter_le _ _
        have := okS.1
        omega
      have s200 := okS.1
      obtain ⟨V3, c1, c2, c3'⟩ := v_makeFilter (V := V2) (h := h9) b3 b4 lc (fun r hr => by obtain ⟨i, i1, i2⟩ := b5 r hr; omega) rfl (by rw [f2.vI (by unfold PSc; omega)]; exact r162) (by omega)
      have eP : Lc.map (gP V2) = choS (qK (yq Y) q) (wS (yw Y) p) := by
        rw [← b6]
        exact List.map_congr_left (fun r _ => by
          unfold gP
          rw [gk_ag (a := 211) (fun i => f2.vI (by unfold PSc; omega)), f2.vI (by unfold PSc; omega), f2.vI (by unfold PSc; omega), f2.vI (by unfold PSc; omega), f2.vI (by unfold PSc; omega)])
      rw [eP] at c2
      have Y3 := vy_9 (vy_9 Y1 (m_9 (fun a i z => PSc9 z) f2)) (m_9 (fun a i z => by
        unfold PFl at z
        rcases z with z | z | z
        · have : a = 159 ∨ a = 160 ∨ a = 161 := by omega
          rcases this with y | y | y <;> rw [y] <;> rfl
        · rw [z]; rfl
        · have : i = 78 ∨ i = 79 ∨ i = 80 ∨ i = 81 ∨ i = 82 := by omega
          rcases this with y | y | y | y | y <;> rw [z.1, y] <;> rfl) c3')
      obtain ⟨V4, d1, d2, d3⟩ := v_tookBits Y3 ht c2 (by omega)
      refine ⟨V4, tn1, ?_, ?_, ?_, ts1.mono (by omega)⟩
      · rw [show f_X16_choose (p : Int) 249 ((5 * q : Nat) : Int) V1 = _ from b1, Option.bind_some, c1, Option.bind_some, d1]; rfl
      · rw [hh9, Int.toNat_natCast]; exact d2
      · exact ((K1.trans (KpV_frs f2 (fun a i z => kp_9 z))).trans (KpV_frs c3' (fun a i z => by unfold PFl at z; unfold kpA; omega))).trans d3
    · rw [if_neg co, decide_eq_false co, if_pos (by decide)]
      obtain ⟨V2, d1, d2, _, _⟩ := v_bodyKey (V := V1) (e := 249) (n := 660) (p := 5 * q) m249 (by decide) (by omega) (by decide)
      have f1 := bodyKey_fr d1
      have d2 : BodyV V2 (kbs (qK (yq Y) q)) := by
        have : kby (kV V1 249 (5 * q)) = kbs (qK (yq Y) q) := by rw [kby_ky, ← k249']; rfl
        rw [← this]; exact d2
      obtain ⟨V', tn', a1, a2, a3, a4⟩ := v_askQ (q := q) (ty := 9) (s := s) (vy_9 Y1 (m_9 (fun a i z => PB9 z) f1)) hB ht tn1b hg hqq q132 had (Or.inl ⟨c3, rfl⟩) d2 (kbs_isBL _) (by omega)
      refine ⟨V', tn', ?_, a2, (K1.trans (KpV_frs f1 (fun a i z => PB_kp z))).trans a3, ts1.trans a4 (by omega)⟩
      rw [show f_X16_bodyKey 249 ((5 * q : Nat) : Int) V1 = _ from d1, Option.bind_some, a1]
      rfl
  · rw [if_neg c3, if_neg c3]
    by_cases c4 : s = 4
    · rw [if_pos c4, if_pos c4]
      -- how many hashes
      obtain ⟨hs', hhs⟩ : ∃ h' : Nat, hsQ Y t = (h' : Int) ∧ 1 ≤ h' ∧ h' ≤ 8 := by
        unfold hsQ
        by_cases c1 : yv Y 247 t = 1
        · rw [if_pos c1]; exact ⟨h9, hh9, by omega, by omega⟩
        · rw [if_neg c1]
          have := q8 (by omega) (by omega)
          exact ⟨(yv Y 256 t).toNat, by omega, by omega, by omega⟩
      have r254 : vI V1 254 t = yv Y 254 t := by rw [v1 254 t (by decide)]; exact s5 254 t (by unfold scA; omega)
      have r184 : ((l2 247 44 (t : Int) V1).bind fun v7 => if w32 v7 = w32 1 then (l2 162 11 9 V1).bind fun v8 => j_X16_queryOn_184 (t : Int) (p : Int) s (q : Int) (b2i (decide (qH (yq Y) q = own p))) v8 V1 else j_X16_queryOn_178 (t : Int) (p : Int) s (q : Int) (b2i (decide (qH (yq Y) q = own p))) V1) = j_X16_queryOn_184 (t : Int) (p : Int) s (q : Int) (b2i (decide (qH (yq Y) q = own p))) (hs' : Int) V1 := by
        rw [l2_n ht (by omega), v1 247 t (by decide), r247, Option.bind_some, w32_nn (by omega)]
        have e := hhs.1
        unfold hsQ at e
        rw [hn] at e
        by_cases c1 : n = 1
        · rw [if_pos (show ((n : Nat) : Int) = w32 1 by rw [c1]; rfl), show l2 162 11 9 V1 = some (vI V1 162 9) from l2_n (a := 162) (j := 9) (by decide) (by decide), r162, Option.bind_some]
          rw [if_pos (by omega), hh9] at e
          rw [e]
        · rw [if_neg (show ¬ ((n : Nat) : Int) = w32 1 by show ¬ ((n : Nat) : Int) = 1; omega)]
          unfold j_X16_queryOn_178
          rw [if_neg (by omega)] at e
          rw [l2_n ht (by omega), v1 256 t (by decide), s5 256 t (by unfold scA; omega), Option.bind_some, show vI (ys Y) 256 t = (hs' : Int) from e]
      rw [r184]
      have lB := q7.1
      by_cases co : qH (yq Y) q = own p
      · rw [if_pos co, decide_eq_true co]
        have hsk := q6 (by
          have : (if yv Y 247 t = 1 then 0 else 1) = qI Y t := by unfold qI; rw [← hs, if_neg c3, if_pos c4]
          rw [this, ← hy, ← hqd, hyp]; exact co)
        obtain ⟨sk, hsk2⟩ : ∃ sk : Nat, yv Y 254 t = (sk : Int) := ⟨(yv Y 254 t).toNat, by omega⟩
        obtain ⟨V8, hV8⟩ : ∃ V8, V8 = st2 (st2 V1 156 78 (B.length : Int)) 156 79 (hs' : Int) := ⟨_, rfl⟩
        have f8 : FrS (fun a i => a = 156 ∧ (i = 78 ∨ i = 79)) V1 V8 := fun a i z => by rw [hV8, st2_ne (by omega), st2_ne (by omega)]
        obtain ⟨U, a1, a2, a3⟩ := v_cpBits (x1 := (t : Int)) (x2 := (p : Int)) (x4 := (q : Int)) (V := V8) (bs := B) (hs := hs') ht rfl (by rw [hV8, vI_ne (by omega), vI_eq rfl, w32_nn (by omega)]) (by rw [hV8, vI_eq rfl, w32_nn (by omega)]) (fun i hi => by rw [f8.vI (by omega)]; exact B2 i hi) q7
        have YU := vy_9 (vy_9 Y1 (m_9 (fun a i z => by rcases z.2 with y | y <;> rw [z.1, y] <;> rfl) f8)) (m_9 (fun a i z => by rw [show a = 220 from z]; rfl) a3)
        have StU : StV U p (wS (yw Y) p) := by obtain ⟨⟨L', hP', _⟩, _⟩ := id YU; exact hP'.2.2.2.1 p p32
        obtain ⟨U2, b1, b2, b3, b4⟩ := v_findMatches (V := U) (e := 249) (q := 5 * q) (n := 660) (hs := hs') (bs := B) (skip := sk) StU p32 m249 (by omega) (by decide) (by decide) a2 (by omega) (by omega)
        have k249U : gk U 249 (5 * q) = qK (yq Y) q := by rw [← k249']; exact gk_ag (fun i => by rw [a3.vI (show ¬ (249 = 220) by decide), f8.vI (by omega)])
        rw [k249U] at b2 b3
        have Y2 := vy_9 YU (m_9 (fun a i z => by
          unfold PM at z
          rcases z with z | z | z | z
          · have : a = 159 ∨ a = 160 ∨ a = 161 := by omega
            rcases this with y | y | y <;> rw [y] <;> rfl
          · have : a = 221 ∨ a = 222 ∨ a = 223 := by omega
            rcases this with y | y | y <;> rw [y] <;> rfl
          · rw [z]; rfl
          · have : i = 72 ∨ i = 81 ∨ i = 82 ∨ i = 83 ∨ i = 84 := by omega
            rcases this with y | y | y | y | y <;> rw [z.1, y] <;> rfl) b4)
        have mtq : mtQ Y t = mtcS hs' B (choS (qK (yq Y) q) (wS (yw Y) p)) := by unfold mtQ; rw [hhs.1, Int.toNat_natCast, ← hBd, hqq, hyp]
        obtain ⟨V', tn', d1, d2, d3, d4⟩ := v_tookMatches Y2 ht tn1b hr q9 b2 (page_okM okS) b3
        refine ⟨V', tn', ?_, ?_, ?_, ts1.trans d4 (by omega)⟩
        · unfold j_X16_queryOn_184
          rw [if_neg (by decide), l2_n ht (by omega), B1, Option.bind_some, p2_e, Option.bind_some, p2_e, Option.bind_some, ← hV8, a1]
          unfold j_X16_queryOn_245
          have e254 : vI U 254 t = (sk : Int) := by rw [a3.vI (show ¬ (254 = 220) by decide), f8.vI (by omega), r254]; exact hsk2
          rw [l2_n ht (by omega), e254, Option.bind_some, c5m, show f_X16_findMatches (p : Int) 249 ((5 * q : Nat) : Int) (sk : Int) U = _ from b1, Option.bind_some, d1]
          rfl
        · rw [mtq, show (yv Y 254 t).toNat = sk by omega]; exact d2
        · exact (((K1.trans (KpV_frs f8 (fun a i z => by unfold kpA; omega))).trans (KpV_frs a3 (fun a i z => by unfold kpA; omega))).trans (KpV_frs b4 (fun a i z => by unfold PM at z; unfold kpA; omega))).trans d3
      · rw [if_neg co, decide_eq_false co]
        obtain ⟨V2, d1, d2, _, _⟩ := v_bodyKey (V := V1) (e := 249) (n := 660) (p := 5 * q) m249 (by decide) (by omega) (by decide)
        have f1 := bodyKey_fr d1
        have d2 : BodyV V2 (kbs (qK (yq Y) q)) := by
          have : kby (kV V1 249 (5 * q)) = kbs (qK (yq Y) q) := by rw [kby_ky, ← k249']; rfl
          rw [← this]; exact d2
        obtain ⟨V3, V4, g1, g2, g3, g4, g5⟩ := body_pair (x := yv Y 254 t) d2 (by omega)
        obtain ⟨V5, i1, i2, i3⟩ := body_app (v := (hs' : Int)) g3 (by rw [List.length_append, be_len]; omega) (by omega)
        obtain ⟨V6, V7, j1, j2, j3, j4, j5⟩ := body_pair (x := (B.length : Int)) i2 (by rw [List.length_append, List.length_append, be_len, l20]; show 20 + 2 + 1 + 2 ≤ 325; omega)
        have F7 : FrS PB V1 V7 := ((f1.trans g5).trans i3).trans j5
        obtain ⟨U, m1, m2, m3⟩ := v_bodyBits (x1 := (t : Int)) (x3 := s) (x4 := (q : Int)) (V := V7) (bs := B) ht rfl (by rw [F7.vI (by unfold PB; omega)]; exact B1) (fun i hi => by rw [F7.vI (by unfold PB; omega)]; exact B2 i hi) q7 j3 (by simp only [List.length_append, be_len, l20, List.length_singleton]; omega)
        have bdE : kbs (qK (yq Y) q) ++ be (yv Y 254 t) 2 ++ [(hs' : Int)] ++ be (B.length : Int) 2 ++ B = kbs (qK (yq Y) q) ++ be (yv Y 254 t) 2 ++ (hsQ Y t :: be (((qB (yq Y) t).length : Nat) : Int) 2) ++ qB (yq Y) t := by
          rw [hhs.1, ← hBd]; simp
        rw [bdE] at m2
        have FU := F7.trans m3
        obtain ⟨V', tn', a1, a2, a3, a4⟩ := v_askQ (q := q) (ty := 11) (s := s) (vy_9 Y1 (m_9 (fun a i z => PB9 z) FU)) hB ht tn1b hg hqq q132 had (Or.inr (Or.inl ⟨c4, rfl⟩)) m2 (by
          rw [hhs.1, ← hBd]
          refine isBL_app (isBL_app (isBL_app (kbs_isBL _) (be_isBL _ _)) (fun b hb => ?_)) q7.2
          rcases List.mem_cons.mp hb with z | z
          · rw [z]; omega
          · exact be_isBL _ _ b z) (by rw [← hBd]; simp only [List.length_append, be_len, l20, List.length_cons]; omega)
        refine ⟨V', tn', ?_, a2, (K1.trans (KpV_frs FU (fun a i z => PB_kp z))).trans a3, ts1.trans a4 (by omega)⟩
        unfold j_X16_queryOn_184
        have e2 : vI V2 254 t = yv Y 254 t := by rw [f1.vI (by unfold PB; omega)]; exact r254
        have e3 : vI V3 254 t = yv Y 254 t := by rw [g4.vI (by unfold PB; omega)]; exact e2
        have e5 : vI V5 255 t = (B.length : Int) := by rw [i3.vI (by unfold PB; omega), g5.vI (by unfold PB; omega), f1.vI (by unfold PB; omega)]; exact B1
        have e6 : vI V6 255 t = (B.length : Int) := by rw [j4.vI (by unfold PB; omega)]; exact e5
        rw [if_pos (by decide), c5m, show f_X16_bodyKey 249 ((5 * q : Nat) : Int) V1 = _ from d1, Option.bind_some, l2_n ht (by omega), e2, Option.bind_some, g1, Option.bind_some, l2_n ht (by omega), e3, Option.bind_some, g2, Option.bind_some, i1, Option.bind_some, l2_n ht (by omega), e5, Option.bind_some, j1, Option.bind_some, l2_n ht (by omega), e6, Option.bind_some, j2, Option.bind_some, m1]
        unfold j_X16_queryOn_372
        rw [a1]
        rfl
    · rw [if_neg c4, if_neg c4]
      have s5' : s = 5 := by omega
      obtain ⟨x1, x2, x3, x4⟩ := q10 (by omega)
      obtain ⟨f, hf⟩ : ∃ f : Nat, yv Y 264 t = (f : Int) := ⟨(yv Y 264 t).toNat, by omega⟩
      obtain ⟨Lq, hLq⟩ : ∃ Lq, Lq = qL (yq Y) t := ⟨_, rfl⟩
      rw [← hLq] at LV1 q9 x2 x4
      have l200 := q9.1
      have r264 : vI V1 264 t = (f : Int) := by rw [v1 264 t (by decide), s5 264 t (by unfold scA; omega)]; exact hf
      obtain ⟨n0, hn0⟩ : ∃ n0, n0 = min 30 (Lq.length - f) := ⟨_, rfl⟩
      have chq : chQ Y t = (Lq.drop f).take n0 := by
        unfold chQ
        rw [← hLq, show (yv Y 264 t).toNat = f by omega, hn0]
        by_cases c : Lq.length - f ≤ 30
        · rw [Nat.min_eq_right c, List.take_of_length_le (by rw [List.length_drop]; omega), List.take_of_length_le (by rw [List.length_drop]; omega)]
        · rw [Nat.min_eq_left (by omega)]
      have lch : (chQ Y t).length = n0 := by rw [chq, List.length_take, List.length_drop]; omega
      have r411 : ((l2 258 44 (t : Int) V1).bind fun v3 => (l2 264 44 (t : Int) V1).bind fun v4 => if w32 (v3 - v4) < w32 30 then (l2 258 44 (t : Int) V1).bind fun v5 => (l2 264 44 (t : Int) V1).bind fun v6 => j_X16_queryOn_411 (t : Int) (p : Int) s (q : Int) (b2i (decide (qH (yq Y) q = own p))) (v5 - v6) V1 else j_X16_queryOn_411 (t : Int) (p : Int) s (q : Int) (b2i (decide (qH (yq Y) q = own p))) 30 V1) = j_X16_queryOn_411 (t : Int) (p : Int) s (q : Int) (b2i (decide (qH (yq Y) q = own p))) (n0 : Int) V1 := by
        rw [l2_n ht (by omega), LV1.1, Option.bind_some, l2_n ht (by omega), r264, Option.bind_some, show ((Lq.length : Nat) : Int) - (f : Int) = ((Lq.length - f : Nat) : Int) by omega, w32_nn (by omega), Option.bind_some, Option.bind_some]
        by_cases c : Lq.length - f < 30
        · rw [if_pos (show ((Lq.length - f : Nat) : Int) < w32 30 by show ((Lq.length - f : Nat) : Int) < 30; omega), hn0, Nat.min_eq_right (by omega), show ((Lq.length : Nat) : Int) - (f : Int) = ((Lq.length - f : Nat) : Int) by omega]
        · rw [if_neg (show ¬ ((Lq.length - f : Nat) : Int) < w32 30 by show ¬ ((Lq.length - f : Nat) : Int) < 30; omega), hn0, Nat.min_eq_left (by omega)]; rfl
      rw [r411]
      obtain ⟨V2, hV2⟩ : ∃ V2, V2 = st2 V1 156 88 (n0 : Int) := ⟨_, rfl⟩
      have f2 : FrS (fun a i => a = 156 ∧ i = 88) V1 V2 := fun a i z => by rw [hV2, st2_ne z]
      have LV2 : LiV V2 t Lq := ⟨by rw [f2.vI (by omega)]; exact LV1.1, fun i hi => by
        have e := LV1.2 i hi
        unfold gLi at e ⊢
        rw [f2.vI (by omega), f2.vI (by omega), f2.vI (by omega)]; exact e⟩
      obtain ⟨U, a1, a2, a3⟩ := v_chunk (x1 := (t : Int)) (x2 := (p : Int)) (x3 := s) (x4 := (q : Int)) (x5 := b2i (decide (qH (yq Y) q = own p))) (V := V2) (f := f) (n0 := n0) ht rfl (by rw [f2.vI (by omega)]; exact r264) LV2 l200 (by omega) (by omega) (by rw [hV2, vI_eq rfl, w32_nn (by omega)])
      rw [← chq] at a2
      have F2 : FrS (fun a i => (a = 156 ∧ i = 88) ∨ a = 224 ∨ a = 225) V1 U := (f2.mono (fun a i z => Or.inl z)).trans (a3.mono (fun a i z => Or.inr z))
      have F29 : ∀ a i : Nat, ((a = 156 ∧ i = 88) ∨ a = 224 ∨ a = 225) → mv a i = 9 := fun a i z => by
        rcases z with z | z | z
        · rw [z.1, z.2]; rfl
        · rw [z]; rfl
        · rw [z]; rfl
      have YU := vy_9 Y1 (m_9 F29 F2)
      have KU : KpV V U := K1.trans (KpV_frs F2 (fun a i z => by unfold kpA; omega))
      have run2 : j_X16_queryOn_411 (t : Int) (p : Int) s (q : Int) (b2i (decide (qH (yq Y) q = own p))) (n0 : Int) V1 = j_X16_queryOn_489 (t : Int) (p : Int) s (q : Int) (b2i (decide (qH (yq Y) q = own p))) (n0 : Int) U := by
        unfold j_X16_queryOn_411
        rw [p2_e, Option.bind_some, ← hV2, a1]
      rw [run2]
      have k249U : gk U 249 (5 * q) = qK (yq Y) q := by rw [← k249']; exact gk_ag (fun i => F2.vI (by omega))
      unfold j_X16_queryOn_489
      have sc8 : ∀ z, z ∈ Lq → z.2.2 ≤ 800 := fun z hz => by
        obtain ⟨i, hi, e⟩ := List.getElem_of_mem hz
        have := x4 i hi
        rw [gd_get hi, e] at this
        revert this
        split <;> split <;> omega
      by_cases co : qH (yq Y) q = own p
      · rw [if_pos co, decide_eq_true co, if_neg (by decide)]
        have StU : StV U p (wS (yw Y) p) := by obtain ⟨⟨L', hP', _⟩, _⟩ := id YU; exact hP'.2.2.2.1 p p32
        obtain ⟨U2, b1, b2, b3⟩ := v_findChecked (V := U) (e := 249) (q := 5 * q) (n := 660) StU p32 m249 (by omega) (by decide) (fun i => by unfold PT; omega) a2
        rw [k249U] at b2
        have Y2 := vy_9 YU (m_9 (fun a i z => by
          unfold PT at z
          rcases z with z | z
          · have : a = 221 ∨ a = 222 ∨ a = 223 := by omega
            rcases this with y | y | y <;> rw [y] <;> rfl
          · rcases z.2 with y | y <;> rw [z.1, y] <;> rfl) b3)
        obtain ⟨V', tn', d1, d2, d3, d4⟩ := v_tookChecked Y2 ht tn1b hr (by show okL (qL (yq Y) t); rw [← hLq]; exact q9) (by show ∀ z, z ∈ qL (yq Y) t → _; rw [← hLq]; exact sc8) (by show 0 ≤ yv Y 264 t ∧ yv Y 264 t < ((qL (yq Y) t).length : Int); rw [← hLq]; exact x2) x3 b2 (chk_okM okS (by rw [List.length_map]; omega))
        refine ⟨V', tn', ?_, d2, (KU.trans (KpV_frs b3 (fun a i z => by unfold PT at z; unfold kpA; omega))).trans d3, ts1.trans d4 (by omega)⟩
        rw [c5m, show f_X16_findChecked (p : Int) 249 ((5 * q : Nat) : Int) U = _ from b1, Option.bind_some, d1]
        rfl
      · rw [if_neg co, decide_eq_false co, if_pos (by decide)]
        obtain ⟨V3, d1, d2, _, _⟩ := v_bodyKey (V := U) (e := 249) (n := 660) (p := 5 * q) m249 (by decide) (by omega) (by decide)
        have f1 := bodyKey_fr d1
        have d2 : BodyV V3 (kbs (qK (yq Y) q)) := by
          have : kby (kV U 249 (5 * q)) = kbs (qK (yq Y) q) := by rw [kby_ky, ← k249U]; rfl
          rw [← this]; exact d2
        obtain ⟨V4, i1, i2, i3⟩ := body_app (v := (n0 : Int)) d2 (by omega) (by omega)
        have F4 := f1.trans i3
        have C4 : ChkV V4 ((chQ Y t).map od) := ⟨by rw [F4.vI (by unfold PB; omega)]; exact a2.1, a2.2.1, fun i hi => by rw [F4.vI (by unfold PB; omega), F4.vI (by unfold PB; omega)]; exact a2.2.2 i hi⟩
        obtain ⟨V5, j1, j2, j3⟩ := v_chunkBody (x1 := (t : Int)) (x3 := s) (x4 := (q : Int)) C4 (fun z hz => by
          obtain ⟨w, hw, e⟩ := List.mem_map.mp hz
          rw [chq] at hw
          have := q9.2.2 w (List.mem_of_mem_drop (List.mem_of_mem_take hw))
          rw [← e]
          exact ⟨by show 0 ≤ w.1 ∧ w.1 < 256; omega, by show 0 ≤ w.2.1 ∧ w.2.1 < 256; omega⟩) i2 (by rw [List.length_append, l20]; show 20 + 1 + 60 ≤ 325; omega)
        have F5 := F4.trans j3
        rw [List.length_map, lch] at j1
        have fm : ((chQ Y t).map od).flatMap (fun z => [z.1, z.2]) = (chQ Y t).flatMap (fun z => [z.1, z.2.1]) := by rw [List.flatMap_map]; rfl
        have bdE : kbs (qK (yq Y) q) ++ [(n0 : Int)] ++ ((chQ Y t).map od).flatMap (fun z => [z.1, z.2]) = kbs (qK (yq Y) q) ++ (((chQ Y t).length : Nat) : Int) :: (chQ Y t).flatMap (fun z => [z.1, z.2.1]) := by rw [fm, lch]; simp
        rw [bdE] at j2
        have cb : isBL ((chQ Y t).flatMap (fun z => [z.1, z.2.1])) ∧ ((chQ Y t).flatMap (fun z => [z.1, z.2.1])).length = 2 * n0 := by
          constructor
          · intro b hb
            obtain ⟨w, hw, hb⟩ := List.mem_flatMap.mp hb
            rw [chq] at hw
            have := q9.2.2 w (List.mem_of_mem_drop (List.mem_of_mem_take hw))
            simp only [List.mem_cons, List.not_mem_nil, or_false] at hb
            rcases hb with e | e <;> rw [e] <;> omega
          · rw [← lch]
            generalize chQ Y t = l
            induction l with
            | nil => rfl
            | cons a l ih => rw [List.flatMap_cons, List.length_append, ih, List.length_cons]; show 2 + 2 * l.length = 2 * (l.length + 1); omega
        obtain ⟨V', tn', a1', a2', a3', a4'⟩ := v_askQ (q := q) (ty := 13) (s := s) (vy_9 YU (m_9 (fun a i z => PB9 z) F5)) hB ht tn1b hg hqq q132 had (Or.inr (Or.inr ⟨s5', rfl⟩)) j2 (by
          refine isBL_app (kbs_isBL _) (fun b hb => ?_)
          rcases List.mem_cons.mp hb with z | z
          · rw [z, lch]; omega
          · exact cb.1 b z) (by rw [List.length_append, l20, List.length_cons, cb.2]; omega)
        refine ⟨V', tn', ?_, a2', (KU.trans (KpV_frs F5 (fun a i z => PB_kp z))).trans a3', ts1.trans a4' (by omega)⟩
        rw [c5m, show f_X16_bodyKey 249 ((5 * q : Nat) : Int) U = _ from d1, Option.bind_some, i1, Option.bind_some, j1, a1']
        rfl
end VQON2
