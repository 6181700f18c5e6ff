section CLOSE
variable {M M1 M2 : MM} {ow ow1 ow2 : Nat → Nat × Nat} {t ko m n bA i j c k kx a a1 len : Nat} {own : Ky} {T T' : List Row} {pf : Nat → Bool} {B : Nat → Nat} {P P' : Nat → Bool → List Nat} {Cn Cn' : Nat → Bool → List (Ky × Int)} {fl : Nat → Int} {sp : List Nat} {b b2 : Bool} {ad : Int} {x : Row} {i2 : Nat}
theorem stf_move (hi : i < bA) (hi2 : i2 < bA) (hc : (ow c).1 = t) (h : ExC (fun q => (q = rwA B i b ∨ q = rwA B i b + 1) ∨ (q = rwA B i2 b2 ∨ q = rwA B i2 b2 + 1)) M M1) : StF M ow B bA t a M1 (fup ow c (t, rwA B i2 b2)) a := by
  refine ⟨(ExC.exa h).mono (fun q hq => ?_), fun z hz => ?_, Or.inl rfl⟩
  · rcases hq with (e | e) | (e | e)
    · rw [e]; exact Or.inl (rw_A3 hi).1
    · rw [e]; exact Or.inl (rw_A3 hi).2
    · rw [e]; exact Or.inl (rw_A3 hi2).1
    · rw [e]; exact Or.inl (rw_A3 hi2).2
  · by_cases q : z = c
    · rw [q, fup_eq]
      exact ⟨fun q1 _ => absurd hc q1, ⟨fun _ => Or.inl rfl, fun _ => Or.inl hc⟩⟩
    · rw [fup_ne q]; exact ⟨fun _ _ => rfl, Iff.rfl⟩
/-- a contact is taken out and given to the pool -/
theorem tt_del (h : TT M ow t ko m own T pf n bA B P Cn fl a len sp) (hi : i < n) (hk : k < (P i b).length) (hx : x ∈ T) (hin : inB n own i b x = true) (hcx : (Cn i b).getD k ((0, 0, 0, 0, 0), 0) = kad x) (hsp : sp.length ≤ 40000) : ∃ (c : Nat) (M1 M2 : MM) (ow' : Nat → Nat × Nat) (a' len' : Nat), f_X22_remove ((rwA B i b : Nat) : Int) (k : Int) M = some ((c : Int), M1) ∧ (kd M1 28).1 = 9 ∧ f_X9_give 28 (c : Int) M1 = some M2 ∧ TT M2 ow' t ko m own (rmT T x.1) pf n bA B (up2 P i b ((P i b).eraseIdx k)) (up2 Cn i b ((Cn i b).eraseIdx k)) fl a' len' (sp ++ [c]) ∧ Ac M M2 (sp.length + T.length) ((sp ++ [c]).length + (rmT T x.1).length) bA bA len len' m ∧ StF M ow B bA t a M2 ow' a' := by
  obtain ⟨tp, h1, h2, h3, h4, h5, h6⟩ := id h
  have ib : i < bA := by omega
  obtain ⟨c, M1, M2, a2, len2, q1, q2, q3, q4, q5, q6, q7⟩ := op_del (k := k) (b := b) h.1 ib hk (Nat.le_trans hsp (by decide))
  refine ⟨c, M1, M2, _, a2, len2, q1, q2, q3, tt_of h q4 (fun i' b' hi' => ?_) (fun i' b' w1 w2 => up2_ne (by omega)) (okT_rm h5) ?_, Ac.give ?_ q6 tp.2.2.2.2.2.2.2.2.1.2.2.2.2.2.1.1, stf_del ib ?_ (by rcases q6 with w | w; exact Or.inl w.1; exact Or.inr w.2.1) q7⟩
  · have hrm := cn_rm (k := k) h5 hx hin (by rw [← h2 i b hi, ← (h.1.row (b := b) ib).2.2.2.1]; exact hk) (by rw [← h2 i b hi, hcx]; rfl) i' b'
    rw [hrm, ← h2 i b hi]
    by_cases q : i' = i ∧ b' = b
    · rw [q.1, q.2, up2_eq, up2_eq]
    · rw [up2_ne q, up2_ne q]; exact h2 i' b' hi'
  · intro hn
    exact ⟨fun z hz hr => (h6 hn).1 z (rmT_mem.mp hz).1 hr, (h6 hn).2⟩
  · have := rmT_len h5 hx
    rw [List.length_append, List.length_singleton]; omega
  · have := (h.1.row (b := b) ib).2.2.1 c (by rw [q5]; exact getD_mem hk)
    rw [this]
theorem c_lose (h : TT M ow t ko m own T pf n bA B P Cn fl a len sp) (hk : isK M kx) (hown : kyo own) (had : w32 ad = ad) (hsp : sp.length ≤ 40000) :
    ∃ (M' : MM) (ow' : Nat → Nat × Nat) (P' : Nat → Bool → List Nat) (Cn' : Nat → Bool → List (Ky × Int)) (a' len' : Nat) (sp' : List Nat), f_X20_lose (t : Int) (kx : Int) ad M = some M' ∧ TT M' ow' t ko m own (loseT own (ky (kC M kx)) ad T) pf n bA B P' Cn' fl a' len' sp' ∧ KL sp.length sp'.length T.length (loseT own (ky (kC M kx)) ad T).length ∧ Ac M M' (sp.length + T.length) (sp'.length + (loseT own (ky (kC M kx)) ad T).length) bA bA len len' m ∧ StF M ow B bA t a M' ow' a' := by
  obtain ⟨tp, h1, h2, h3, h4, h5, h6⟩ := id h
  obtain ⟨hu, hS, hO, hko, hB, hP, hCn, hF, hL, hN, hW, ht⟩ := id tp
  obtain ⟨key, hkey⟩ : ∃ key, key = ky (kC M kx) := ⟨_, rfl⟩
  have hkok : kyo key := by rw [hkey]; exact kyo_ky (kC_ok _ _)
  have com : f_X3_common (ko : Int) (kx : Int) M = some (kc key own) := by
    rw [e_X3_common hS.2.2.1 hk, ← kc_ky, hO, ← hkey, kc_comm]
  have hkl := kc_lo key own
  have hkh := kc_hi key own
  have hb := hB.1
  rw [← hkey]
  have stay : ∀ Tz, loseT own key ad T = Tz → Tz = T → ∃ (M' : MM) (ow' : Nat → Nat × Nat) (P' : Nat → Bool → List Nat) (Cn' : Nat → Bool → List (Ky × Int)) (a' len' : Nat) (sp' : List Nat), (some M : Option MM) = some M' ∧ TT M' ow' t ko m own Tz pf n bA B P' Cn' fl a' len' sp' ∧ KL sp.length sp'.length T.length Tz.length ∧ Ac M M' (sp.length + T.length) (sp'.length + Tz.length) bA bA len len' m ∧ StF M ow B bA t a M' ow' a' := fun Tz _ e => by
    subst e
    exact ⟨M, ow, P, Cn, a, len, sp, rfl, h, ⟨by omega, Or.inl (Nat.le_refl _)⟩, Ac.same rfl rfl rfl, StF.refl⟩
  unfold f_X20_lose
  rw [gfr_e hS.1, hS.2.1, Option.bind_some, ck_e hS.2.2.1.1, com, Option.bind_some, w32_id (by omega) (by omega), show w32 160 = 160 by decide]
  by_cases c160 : kc key own = 160
  · rw [if_pos c160]
    have hko := (kc_160 hkok hown).mp c160
    have : loseT own key ad T = T := by
      unfold loseT
      rw [fnd_none (fun y hy => by rw [hko]; exact (h5.2.2 y hy).2.2)]
    exact stay _ rfl this
  rw [if_neg c160]
  obtain ⟨C, hC⟩ : ∃ C : Nat, kc key own = ((C : Nat) : Int) := ⟨(kc key own).toNat, by omega⟩
  have hC2 : C < 160 := by omega
  have bf := c_bucketFor (cc := kc key own) hS hB h1 ⟨hkl, hkh⟩
  rw [show (kc key own).toNat = C by omega] at bf
  rw [ck_e hS.1, bf, Option.bind_some]
  obtain ⟨i0, hi0⟩ : ∃ i0, i0 = min C (n - 1) := ⟨_, rfl⟩
  rw [← hi0]
  have i0n : i0 < n := by omega
  have i0b : i0 < bA := by omega
  have bk := (hB.2.1 i0 i0b).2.1
  have e1 : rwA B i0 false = B i0 + 1 := rfl
  have e3 : rwA B i0 true = B i0 + 3 := rfl
  have rowF : RowC M (B i0 + 1) m (P i0 false) := (hP i0 false i0b).1
  have rowT : RowC M (B i0 + 3) m (P i0 true) := (hP i0 true i0b).1
  have hbk : ∀ x : Row, x.1 = key → bkI n own x = i0 := fun x q => by rw [inB_own (C := C) (by rw [q]; exact hC), hi0]
  have m20 : m ≤ 20 := hS.2.2.2.2.2.2.2.2.2
  have g20 : gfr 20 2 (t : Int) M = some ((28 : Nat) : Int) := by rw [gfr_e hS.1, hS.2.2.2.2.1]
  rw [gfr_e (by rw [bk.1]), bk.2.1, Option.bind_some, ck_e bk.2.2.2.1.1]
  have fi := tt_find (b := false) (kx := kx) h hk i0n
  rw [e1, ← hkey] at fi
  rcases fi with ⟨k, x, f1, f2, f3, f4, f5, f6⟩ | ⟨f2, f3⟩
  · have hxr : x.2.2 = false := (inB_iff.mp f4).2
    have km : k < m := Nat.lt_of_lt_of_le f1 rowF.2.2.1
    obtain ⟨r1, r2, r3, r4, r5⟩ := h.1.row (b := false) i0b
    have hct := rowF.2.2.2.2.2 _ (getD_mem (d := 0) f1)
    have hadr : rI M ((P i0 false).getD k 0) 1 = x.2.1 := congrArg Prod.snd ((r5 k f1).trans f6)
    have hrR : rR M (B i0 + 1 + 1) k = (((P i0 false).getD k 0 : Nat) : Int) := rowF.2.2.2.2.1 k f1
    have hwx : w32 x.2.1 = x.2.1 := by rw [← hadr, w32_rI]
    have es : loseT own key ad T = if x.2.1 = ad then (match ((rmT T key).filter (pr own (kc key own) true)).getLast? with | none => rmT T key | some y => rmT (rmT T key) y.1 ++ [(y.1, y.2.1, false)]) else T := by
      unfold loseT
      rw [← f5, fnd_some h5.2.1 f3]
      show (if x.2.1 = ad then (if x.2.2 = true then _ else _) else _) = _
      rw [if_neg (show ¬ x.2.2 = true by rw [hxr]; decide)]
      try rfl
    rw [f2, Option.bind_some, w32_m1, w32_nn (Nat.le_trans (Nat.le_of_lt km) (Nat.le_trans m20 (by decide))), if_neg (fun q => by have : (0 : Int) ≤ (k : Int) := Int.natCast_nonneg k; rw [q] at this; exact absurd this (by decide)), Option.bind_some, gfr_e bk.2.2.2.1.1, bk.2.2.2.1.2.1, Option.bind_some, lar_n bk.2.2.2.1.2.2 (by decide) km (Nat.le_trans m20 (by decide)), Option.bind_some, hrR, gfi_e (by rw [hct.1]), Option.bind_some, hadr, hwx, had]
    by_cases ca : x.2.1 = ad
    · rw [if_pos ca] at es
      rw [if_pos ca]
      obtain ⟨c, M1, M2, ow2, a2, len2, q1, q2, q3, q4, q5, q6⟩ := tt_del (b := false) h i0n f1 f3 f4 f6 hsp
      rw [f5] at q4 q5
      rw [e1] at q1
      rw [g20, Option.bind_some, Option.bind_some, ck_e bk.2.2.2.1.1, q1, Option.bind_some]
      dsimp only
      rw [ck_e q2, show f_X9_give ((28 : Nat) : Int) (c : Int) M1 = _ from q3, Option.bind_some]
      have bk2 := (q4.1.2.2.2.2.1.2.1 i0 i0b).2.1
      have rowT2 : RowC M2 (B i0 + 3) m (up2 P i0 false ((P i0 false).eraseIdx k) i0 true) := (q4.1.2.2.2.2.2.1 i0 true i0b).1
      rw [up2_ne (by simp)] at rowT2
      have hCt : Cn i0 true = ((rmT T key).filter (inB n own i0 true)).map kad := by
        have := q4.2.2.1 i0 true i0n
        rw [up2_ne (by simp)] at this
        exact this
      have hlT : (P i0 true).length = ((rmT T key).filter (inB n own i0 true)).length := by
        rw [(h.1.row (b := true) i0b).2.2.2.1, hCt, List.length_map]
      have hsame : (rmT T key).filter (inB n own i0 true) = (rmT T key).filter (pr own (kc key own) true) := by
        by_cases hx : C < n - 1 ∨ n = 160
        · have : i0 = C := by omega
          rw [this, hC]
          exact inB_pr (okT_rm h5) hown hC2 h1.1 hx
        · have hn : n < 160 := by omega
          have z1 : (rmT T key).filter (inB n own i0 true) = [] := by
            rw [List.filter_eq_nil_iff]
            intro z hz hq
            have w := inB_iff.mp hq
            have := (h6 hn).1 z (rmT_mem.mp hz).1 w.2
            have hk0 := kc_lo z.1 own
            unfold bkI at w
            omega
          have z2 : (rmT T key).filter (pr own (kc key own) true) = [] := by
            rw [List.filter_eq_nil_iff]
            intro z hz hq
            unfold pr at hq
            simp only [Bool.and_eq_true, decide_eq_true_eq, beq_iff_eq] at hq
            have := (h6 hn).1 z (rmT_mem.mp hz).1 hq.2
            omega
          rw [z1, z2]
      rw [gfr_e (by rw [bk2.1]), bk2.2.2.1, Option.bind_some, gfi_e bk2.2.2.2.2.1, Option.bind_some, rowT2.2.1]
      unfold j_X20_lose_114
      by_cases c0 : (P i0 true).length = 0
      · rw [c0, if_neg (by decide)]
        have hnil : (rmT T key).filter (pr own (kc key own) true) = [] := by
          rw [← hsame]; exact List.length_eq_zero_iff.mp (by rw [← hlT]; exact c0)
        rw [hnil] at es
        have es : loseT own key ad T = rmT T key := es
        rw [es]
        refine ⟨M2, ow2, _, _, a2, len2, sp ++ [c], rfl, q4, ⟨by simp, Or.inl (by have l1 := rmT_len h5 f3; rw [f5] at l1; rw [List.length_append, List.length_singleton]; omega)⟩, q5, q6⟩
      · obtain ⟨nl, hnl⟩ : ∃ nl, nl + 1 = (P i0 true).length := ⟨(P i0 true).length - 1, by omega⟩
        have hnm : nl + 1 ≤ m := by rw [hnl]; exact rowT.2.2.1
        obtain ⟨l', y, hy⟩ : ∃ l' y, (rmT T key).filter (inB n own i0 true) = l' ++ [y] := by
          obtain ⟨y, hy⟩ := take_last (l := (rmT T key).filter (inB n own i0 true)) (m := nl) (by rw [← hlT]; exact hnl.symm)
          exact ⟨_, y, hy⟩
        have hl' : l'.length = nl := by
          rw [hy, List.length_append, List.length_singleton] at hlT; omega
        have hyl : ((rmT T key).filter (pr own (kc key own) true)).getLast? = some y := by rw [← hsame, hy]; simp
        rw [hyl] at es
        have es : loseT own key ad T = rmT (rmT T key) y.1 ++ [(y.1, y.2.1, false)] := es
        have hym : y ∈ (rmT T key).filter (inB n own i0 true) := by rw [hy]; simp
        have hyT := List.mem_filter.mp hym
        have hCy : (Cn i0 true).getD nl ((0, 0, 0, 0, 0), 0) = kad y := by
          rw [hCt, hy, List.map_append, List.map_cons, List.map_nil, getD_snoc (by rw [List.length_map, hl']; exact Nat.lt_succ_self _), if_pos (by rw [List.length_map, hl'])]
        obtain ⟨c2, M3, M4, o1, o2, o3, o4, o5, o6, o7, o8⟩ := op_move (i := i0) (b := true) (i2 := i0) (b2 := false) (k := nl) q4.1 i0b i0b (by simp) (by rw [up2_ne (by simp)]; omega) (by
          rw [up2_eq, List.length_eraseIdx_of_lt f1]
          have := rowF.2.2.1
          omega)
        rw [e3] at o1
        rw [e1] at o2 o3
        rw [if_pos (by rw [w32_nn (by omega)]; omega), gfr_e (by rw [bk2.1]), bk2.2.1, Option.bind_some, Option.bind_some, Option.bind_some, gfi_e bk2.2.2.2.2.1, Option.bind_some, rowT2.2.1, ck_e bk2.2.2.2.2.1, show ((P i0 true).length : Int) - 1 = ((nl : Nat) : Int) by omega, o1, Option.bind_some]
        dsimp only
        rw [ck_e o2, o3, Option.bind_some, es]
        have hyr : y.2.2 = true := (inB_iff.mp hyT.2).2
        have hybk : bkI n own y = i0 := (inB_iff.mp hyT.2).1
        refine ⟨M4, _, _, _, a2, len2, sp ++ [c], rfl, tt_of q4 o4 (fun i b hi => ?_) (fun i b w1 w2 => by rw [up2_ne (by omega), up2_ne (by omega)]) ?_ ?_, ⟨by simp, Or.inl (by have l1 := rmT_len h5 f3; rw [f5] at l1; have l2 := List.length_filter_le (fun x : Row => decide (x.1 ≠ y.1)) (rmT T key); have l3 : (rmT (rmT T key) y.1).length + 1 = (rmT T key).length := rmT_len (okT_rm h5) hyT.1; rw [List.length_append, List.length_append, List.length_singleton, List.length_singleton]; omega)⟩, q5.trans (Ac.same o6 o7 ?_), q6.trans (stf_move i0b i0b ?_ o8) (fun _ _ => rfl) (fun i q1 q2 => by omega)⟩
        · have hrm := cn_rm (k := nl) (okT_rm (key := key) h5) hyT.1 hyT.2 (by rw [← hCt, ← (h.1.row (b := true) i0b).2.2.2.1]; omega) (by rw [← hCt, hCy]; rfl) i b
          rw [cn_add, hrm, ← hCt]
          show _ = if i = bkI n own y ∧ b = false then _ else _
          rw [hybk]
          by_cases q : i = i0 ∧ b = false
          · rw [if_pos q, q.1, q.2, up2_eq, up2_eq, up2_ne (by simp), up2_ne (by simp), hCy]
            have := q4.2.2.1 i0 false i0n
            rw [up2_eq] at this
            rw [this]
            rfl
          · rw [if_neg q, up2_ne q]
            by_cases q2 : i = i0 ∧ b = true
            · rw [q2.1, q2.2, up2_eq, up2_eq, up2_ne (by simp)]
            · rw [up2_ne q2, up2_ne q2]
              exact q4.2.2.1 i b hi
        · refine okT_add (okT_rm (okT_rm h5)) ?_ ?_ (fun z hz => (rmT_mem.mp hz).2)
          · have w1 := rmT_len h5 f3
            have w2 := rmT_len (okT_rm (key := key) h5) hyT.1
            rw [f5] at w1
            have := h5.1
            omega
          · have := (okT_rm (key := key) h5).2.2 y hyT.1
            exact this
        · intro hn
          refine ⟨fun z hz hr => ?_, (h6 hn).2⟩
          rcases List.mem_append.mp hz with w | w
          · exact (h6 hn).1 z (rmT_mem.mp (rmT_mem.mp w).1).1 hr
          · simp at w; rw [w] at hr; cases hr
        · have w2 := rmT_len (okT_rm (key := key) h5) hyT.1
          rw [List.length_append (as := rmT (rmT T key) y.1), List.length_singleton]; omega
        · have := (q4.1.row (b := true) i0b).2.2.1 c2 (by rw [o5]; exact getD_mem (by rw [up2_ne (by simp)]; omega))
          rw [this]
    · rw [if_neg ca] at es
      rw [if_neg ca]
      exact stay _ rfl es
  · rw [f2, Option.bind_some, if_pos rfl, gfr_e (by rw [bk.1]), bk.2.2.1, Option.bind_some, ck_e bk.2.2.2.2.1]
    unfold j_X20_lose_167
    have hnr : ∀ x, x ∈ T → x.1 = key → x.2.2 = true := fun x hx q => by
      cases hr : x.2.2 with
      | true => rfl
      | false => exact absurd q (f3 x hx (inB_iff.mpr ⟨hbk x q, hr⟩))
    have fi2 := tt_find (b := true) (kx := kx) h hk i0n
    rw [e3, ← hkey] at fi2
    rcases fi2 with ⟨k, x, g1, g2, g3, g4, g5, g6⟩ | ⟨g2, g3⟩
    · have hxr : x.2.2 = true := (inB_iff.mp g4).2
      have km : k < m := Nat.lt_of_lt_of_le g1 rowT.2.2.1
      obtain ⟨r1, r2, r3, r4, r5⟩ := h.1.row (b := true) i0b
      have hct := rowT.2.2.2.2.2 _ (getD_mem (d := 0) g1)
      have hadr : rI M ((P i0 true).getD k 0) 1 = x.2.1 := congrArg Prod.snd ((r5 k g1).trans g6)
      have hrR : rR M (B i0 + 3 + 1) k = (((P i0 true).getD k 0 : Nat) : Int) := rowT.2.2.2.2.1 k g1
      have hwx : w32 x.2.1 = x.2.1 := by rw [← hadr, w32_rI]
      have es : loseT own key ad T = if x.2.1 = ad then rmT T key else T := by
        unfold loseT
        rw [← g5, fnd_some h5.2.1 g3]
        show (if x.2.1 = ad then (if x.2.2 = true then _ else _) else _) = _
        rw [if_pos hxr]
      rw [g2, Option.bind_some, w32_m1, w32_nn (Nat.le_trans (Nat.le_of_lt km) (Nat.le_trans m20 (by decide))), if_neg (fun q => by have : (0 : Int) ≤ (k : Int) := Int.natCast_nonneg k; rw [q] at this; exact absurd this (by decide)), Option.bind_some, gfr_e bk.2.2.2.2.1, bk.2.2.2.2.2.1, Option.bind_some, lar_n bk.2.2.2.2.2.2 (by decide) km (Nat.le_trans m20 (by decide)), Option.bind_some, hrR, gfi_e (by rw [hct.1]), Option.bind_some, hadr, hwx, had]
      by_cases ca : x.2.1 = ad
      · rw [if_pos ca] at es
        rw [if_pos ca]
        obtain ⟨c, M1, M2, ow2, a2, len2, q1, q2, q3, q4, q5, q6⟩ := tt_del (b := true) h i0n g1 g3 g4 g6 hsp
        rw [g5] at q4 q5
        rw [e3] at q1
        rw [g20, Option.bind_some, Option.bind_some, ck_e bk.2.2.2.2.1, q1, Option.bind_some]
        dsimp only
        rw [ck_e q2, show f_X9_give ((28 : Nat) : Int) (c : Int) M1 = _ from q3, Option.bind_some, es]
        exact ⟨M2, ow2, _, _, a2, len2, sp ++ [c], rfl, q4, ⟨by simp, Or.inl (by have l1 := rmT_len h5 g3; rw [g5] at l1; rw [List.length_append, List.length_singleton]; omega)⟩, q5, q6⟩
      · rw [if_neg ca] at es
        rw [if_neg ca]
        exact stay _ rfl es
    · have : loseT own key ad T = T := by
        unfold loseT
        rw [fnd_none (fun y hy q => g3 y hy (inB_iff.mpr ⟨hbk y q, hnr y hy q⟩) q)]
      rw [g2, Option.bind_some, if_pos rfl]
      exact stay _ rfl this
end CLOSE
