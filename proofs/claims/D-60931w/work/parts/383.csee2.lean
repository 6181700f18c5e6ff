section CSEE2
variable {M M1 M2 : MM} {ow ow1 ow2 : Nat → Nat × Nat} {t ko m n bA i j c k kx a a1 len : Nat} {own : Ky} {T T' : List Row} {pf : Nat → Bool} {B : Nat → Nat} {P P' : Nat → Bool → List Nat} {Cn Cn' : Nat → Bool → List (Ky × Int)} {fl : Nat → Int} {sp : List Nat} {b : Bool} {ad : Int} {x : Row}
theorem c_see (h : TT M ow t ko m own T pf n bA B P Cn fl a len sp) (hk : isK M kx) (hkx : (kd M kx).2 ≠ 38) (hown : kyo own) (had : w32 ad = ad) (hl : T.length < 1100) (hsp : sp.length ≤ 40000) :
    ∃ (M' : MM) (ow' : Nat → Nat × Nat) (n' bA' : Nat) (B' : Nat → Nat) (P' : Nat → Bool → List Nat) (Cn' : Nat → Bool → List (Ky × Int)) (fl' : Nat → Int) (a' len' : Nat) (sp' : List Nat) (res : Int), f_X20_see (t : Int) (kx : Int) ad M = some (res, M') ∧ TT M' ow' t ko m own (seeT m own (ky (kC M kx)) ad T).1 pf n' bA' B' P' Cn' fl' a' len' sp' ∧ (if (seeT m own (ky (kC M kx)) ad T).2 = true then (∃ C : Nat, kc (ky (kC M kx)) own = ((C : Nat) : Int) ∧ C < 160 ∧ C < n' ∧ (C < n' - 1 ∨ n' = 160) ∧ res = if pf C = true then -1 else ((B' C : Nat) : Int)) else res = -1) ∧ KL sp.length sp'.length T.length (seeT m own (ky (kC M kx)) ad T).1.length ∧ Ac M M' (sp.length + T.length) (sp'.length + (seeT m own (ky (kC M kx)) ad T).1.length) bA bA' len len' m ∧ StF M ow B bA t a M' ow' a' ∧ (∀ i, i < bA → B' i = B i) ∧ (∀ i, bA ≤ i → i < bA' → nN M ≤ B' i) ∧ bA ≤ bA' ∧ n ≤ n' := by
  obtain ⟨tp, h1, h2, h3, h4, h5, h6⟩ := id h
  obtain ⟨hu, hS, hO, hko, hB, hP, hCn, hF, hL, hN, hW, ht⟩ := id tp
  obtain ⟨key, hkey⟩ : ∃ key, key = ky (kC M kx) := ⟨_, rfl⟩
  have hkok : kyo key := by rw [hkey]; exact kyo_ky (kC_ok _ _)
  have com : f_X3_common (ko : Int) (kx : Int) M = some (kc key own) := by
    rw [e_X3_common hS.2.2.1 hk, ← kc_ky, hO, ← hkey, kc_comm]
  have hkl := kc_lo key own
  have hkh := kc_hi key own
  have hb := hB.1
  rw [← hkey]
  unfold f_X20_see
  rw [gfr_e hS.1, hS.2.1, Option.bind_some, ck_e hS.2.2.1.1, com, Option.bind_some, w32_id (by omega) (by omega), show w32 160 = 160 by decide]
  by_cases c160 : kc key own = 160
  · have es : seeT m own key ad T = (T, false) := by unfold seeT; rw [if_pos ((kc_160 hkok hown).mp c160)]
    rw [if_pos c160, es]
    exact ⟨M, ow, n, bA, B, P, Cn, fl, a, len, sp, -1, rfl, h, by rw [if_neg (by simp)], ⟨by omega, Or.inl (Nat.le_refl _)⟩, Ac.same rfl rfl rfl, StF.refl, fun _ _ => rfl, fun i q1 q2 => by omega, Nat.le_refl _, Nat.le_refl _⟩
  rw [if_neg c160]
  have hno : key ≠ own := fun q => c160 ((kc_160 hkok hown).mpr q)
  obtain ⟨C, hC⟩ : ∃ C : Nat, kc key own = ((C : Nat) : Int) := ⟨(kc key own).toNat, by omega⟩
  have hC2 : C < 160 := by omega
  have bf := c_bucketFor (cc := kc key own) hS hB h1 ⟨hkl, hkh⟩
  rw [show (kc key own).toNat = C by omega] at bf
  rw [ck_e hS.1, bf, Option.bind_some]
  obtain ⟨i0, hi0⟩ : ∃ i0, i0 = min C (n - 1) := ⟨_, rfl⟩
  rw [← hi0]
  have i0n : i0 < n := by omega
  have i0b : i0 < bA := by omega
  have bk := (hB.2.1 i0 i0b).2.1
  have e1 : rwA B i0 false = B i0 + 1 := rfl
  have rowF : RowC M (B i0 + 1) m (P i0 false) := (hP i0 false i0b).1
  have hbk : ∀ x : Row, x.1 = key → bkI n own x = i0 := fun x q => by rw [inB_own (C := C) (by rw [q]; exact hC), hi0]
  have m20 : m ≤ 20 := hS.2.2.2.2.2.2.2.2.2
  rw [gfr_e (by rw [bk.1]), bk.2.1, Option.bind_some, ck_e bk.2.2.2.1.1]
  have fi := tt_find (b := false) (kx := kx) h hk i0n
  rw [e1, ← hkey] at fi
  rcases fi with ⟨k, x, f1, f2, f3, f4, f5, f6⟩ | ⟨f2, f3⟩
  · have hxr : x.2.2 = false := (inB_iff.mp f4).2
    have km : k < m := Nat.lt_of_lt_of_le f1 rowF.2.2.1
    have es : seeT m own key ad T = (if x.2.1 = ad then rmT T key ++ [x] else T, false) := by
      unfold seeT
      rw [if_neg hno, ← f5, fnd_some h5.2.1 f3]
      show (if x.2.2 = false then _ else _) = _
      rw [if_pos hxr]
    obtain ⟨r1, r2, r3, r4, r5⟩ := h.1.row (b := false) i0b
    have hct := rowF.2.2.2.2.2 _ (getD_mem (d := 0) f1)
    have hadr : rI M ((P i0 false).getD k 0) 1 = x.2.1 := congrArg Prod.snd ((r5 k f1).trans f6)
    have hrR : rR M (B i0 + 1 + 1) k = (((P i0 false).getD k 0 : Nat) : Int) := rowF.2.2.2.2.1 k f1
    have hwx : w32 x.2.1 = x.2.1 := by rw [← hadr, w32_rI]
    unfold j_X20_see_70
    rw [es, f2, Option.bind_some, w32_m1, w32_nn (Nat.le_trans (Nat.le_of_lt km) (Nat.le_trans m20 (by decide))), if_neg (fun q => by have : (0 : Int) ≤ (k : Int) := Int.natCast_nonneg k; rw [q] at this; exact absurd this (by decide)), Option.bind_some, Option.bind_some, gfr_e bk.2.2.2.1.1, bk.2.2.2.1.2.1, Option.bind_some, lar_n bk.2.2.2.1.2.2 (by decide) km (Nat.le_trans m20 (by decide)), Option.bind_some, hrR, gfi_e (by rw [hct.1]), Option.bind_some, hadr, hwx, had, ck_e bk.2.2.2.1.1]
    by_cases ca : x.2.1 = ad
    · rw [if_pos ca, if_pos ca]
      obtain ⟨M', o1, o2, o3⟩ := op_touch (b := false) h.1 i0b f1
      rw [e1] at o1
      rw [o1, Option.bind_some]
      have hTT : TT M' ow t ko m own (rmT T key ++ [x]) pf n bA B (up2 P i0 false ((P i0 false).eraseIdx k ++ [(P i0 false).getD k 0])) (up2 Cn i0 false ((Cn i0 false).eraseIdx k ++ [(Cn i0 false).getD k ((0, 0, 0, 0, 0), 0)])) fl a len sp := by
        refine tt_of h o2 (fun i b hi => ?_) (fun i b q1 q2 => up2_ne (by omega)) ?_ ?_
        · rw [cn_add]
          have hrm := cn_rm (k := k) h5 f3 f4 (by rw [← h2 i0 false i0n, ← r4]; exact f1) (by rw [← h2 i0 false i0n, f6]; rfl) i b
          rw [f5] at hrm
          rw [hrm, hbk x f5, hxr]
          by_cases q : i = i0 ∧ b = false
          · rw [if_pos q, q.1, q.2, up2_eq, up2_eq, ← h2 i0 false i0n, f6]
          · rw [if_neg q, up2_ne q, up2_ne q]; exact h2 i b hi
        · exact okT_add (okT_rm h5) (by have := rmT_len h5 f3; rw [f5] at this; omega) (h5.2.2 x f3) (fun y hy => by rw [f5]; exact (rmT_mem.mp hy).2)
        · intro hn
          refine ⟨fun y hy hr => ?_, (h6 hn).2⟩
          rcases List.mem_append.mp hy with w | w
          · exact (h6 hn).1 y (rmT_mem.mp w).1 hr
          · simp at w; rw [w, hxr] at hr; cases hr
      refine ⟨M', ow, n, bA, B, _, _, fl, a, len, sp, -1, rfl, hTT, by rw [if_neg (by simp)], ⟨by omega, Or.inl (Nat.le_of_eq ?_)⟩, Ac.same o3.nN o3.nU ?_, stf_row i0b o3, fun _ _ => rfl, fun i q1 q2 => by omega, Nat.le_refl _, Nat.le_refl _⟩
      · have := rmT_len h5 f3
        rw [f5] at this
        show sp.length + (rmT T key ++ [x]).length = _
        rw [List.length_append, List.length_singleton]; omega
      · have := rmT_len h5 f3
        rw [f5] at this
        show sp.length + (rmT T key ++ [x]).length = _
        rw [List.length_append, List.length_singleton]; omega
    · rw [if_neg ca, if_neg ca]
      exact ⟨M, ow, n, bA, B, P, Cn, fl, a, len, sp, -1, rfl, h, by rw [if_neg (by simp)], ⟨by omega, Or.inl (Nat.le_refl _)⟩, Ac.same rfl rfl rfl, StF.refl, fun _ _ => rfl, fun i q1 q2 => by omega, Nat.le_refl _, Nat.le_refl _⟩
  · have hnr : ∀ x, x ∈ T → x.1 = key → x.2.2 = true := fun x hx q => by
      cases hr : x.2.2 with
      | true => rfl
      | false => exact absurd q (f3 x hx (inB_iff.mpr ⟨hbk x q, hr⟩))
    rw [f2, Option.bind_some, if_pos rfl, hC]
    unfold l_X20_see_72
    obtain ⟨M1, ow1, n1, bA1, B1, P1, Cn1, fl1, s1, s2', s3, s4, s5, s6, s7, s8, s9, s10, s11, s12⟩ := c_seeL (kx := kx) (ad := ad) hC2 (160 - n) n M ow bA B P Cn fl FU rfl (by unfold FU; omega) h
    rw [hi0, s1]
    obtain ⟨w1, w2, w3⟩ := s11 kx hk
    obtain ⟨M', ow', P', Cn', a', len', sp', res, q1, q2, q3, q4, q5, q6⟩ := c_see123 (ad := ad) s2' w1 (by rw [w3]; exact hkx) hown (by rw [w2, ← hkey]; exact hC) hC2 had hl hsp (by rw [w2, ← hkey]; exact hnr) s3
    rw [w2, ← hkey] at q2 q3 q4 q5
    refine ⟨M', ow', n1, bA1, B1, P', Cn', fl1, a', len', sp', res, q1, q2, ?_, q4, ?_, (stf_split (bA' := bA1) (B' := B1) s10 s6).trans q6 s7 s8, s7, s8, s9, s12⟩
    · by_cases hf : (seeT m own key ad T).2 = true
      · rw [if_pos hf] at q3 ⊢
        exact ⟨C, rfl, hC2, q3.1, q3.2.1, q3.2.2⟩
      · rw [if_neg hf] at q3 ⊢
        exact q3
    · refine Ac.trans (K1 := sp.length + T.length) (bA1 := bA1) (len1 := len) ⟨by omega, by omega⟩ q5
end CSEE2
