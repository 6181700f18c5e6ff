/-- cells and words that are taken, by contacts, buckets, the pool's array -/
def Ac (M M' : MM) (K K' bA bA' len len' m : Nat) : Prop := nN M' + (3 * K + 5 * bA + len) ≤ nN M + (3 * K' + 5 * bA' + len') ∧ nU M' + (8 * K + (7 + 2 * m) * bA + 2 * len) ≤ nU M + (8 * K' + (7 + 2 * m) * bA' + 2 * len')
theorem Ac.same {M M' : MM} {K K' bA len m : Nat} (h1 : nN M' = nN M) (h2 : nU M' = nU M) (hK : K' = K) : Ac M M' K K' bA bA len len m := by
  subst hK
  exact ⟨by rw [h1]; exact Nat.le_refl _, by rw [h2]; exact Nat.le_refl _⟩
theorem Ac.trans {M M1 M2 : MM} {K K1 K2 bA bA1 bA2 len len1 len2 m : Nat} (h1 : Ac M M1 K K1 bA bA1 len len1 m) (h2 : Ac M1 M2 K1 K2 bA1 bA2 len1 len2 m) : Ac M M2 K K2 bA bA2 len len2 m := by
  obtain ⟨a1, a2⟩ := h1
  obtain ⟨b1, b2⟩ := h2
  constructor <;> omega
theorem Ac.give {M M' : MM} {K K' bA len len' m a a' s : Nat} (hK : K' = K) (h : (a' = a ∧ len' = len ∧ nN M' = nN M ∧ nU M' = nU M) ∨ (s = len ∧ a' = nN M ∧ len' = 2 * len ∧ nN M' = nN M + 1 ∧ nU M' = nU M + 2 * len)) (hl : 1 ≤ len) : Ac M M' K K' bA bA len len' m := by
  subst hK
  rcases h with ⟨-, e, e1, e2⟩ | ⟨-, -, e, e1, e2⟩
  · subst e; exact Ac.same e1 e2 rfl
  · subst e
    refine ⟨by rw [e1]; omega, by rw [e2]; omega⟩
theorem Ac.take {M M' : MM} {K K' bA len m : Nat} (h : (K' = K ∧ nN M' = nN M ∧ nU M' = nU M) ∨ (K' = K + 1 ∧ nN M' = nN M + 3 ∧ nU M' = nU M + 8)) : Ac M M' K K' bA bA len len m := by
  rcases h with ⟨e, e1, e2⟩ | ⟨e, e1, e2⟩
  · exact Ac.same e1 e2 e
  · subst e
    exact ⟨by rw [e1]; omega, by rw [e2]; omega⟩
/-- how many are free, how many in use: none is made while one is free -/
def KL (s s' L L' : Nat) : Prop := s' ≤ s + 1 ∧ (s' + L' ≤ s + L ∨ s' = 0)
section CSEE
variable {M M1 M2 : MM} {ow ow1 ow2 : Nat → Nat × Nat} {t ko m n bA i j c k kx a a1 len : Nat} {own : Ky} {T T' : List Row} {pf : Nat → Bool} {B : Nat → Nat} {P P' : Nat → Bool → List Nat} {Cn Cn' : Nat → Bool → List (Ky × Int)} {fl : Nat → Int} {sp : List Nat} {b : Bool} {ad : Int} {x : Row}
/-- found in a row or not -/
theorem tt_find (h : TT M ow t ko m own T pf n bA B P Cn fl a len sp) (hk : isK M kx) (hi : i < n) : (∃ k x, k < (P i b).length ∧ f_X22_find ((rwA B i b : Nat) : Int) (kx : Int) M = some (k : Int) ∧ x ∈ T ∧ inB n own i b x = true ∧ x.1 = ky (kC M kx) ∧ (Cn i b).getD k ((0, 0, 0, 0, 0), 0) = kad x) ∨ (f_X22_find ((rwA B i b : Nat) : Int) (kx : Int) M = some (-1) ∧ ∀ x, x ∈ T → inB n own i b x = true → x.1 ≠ ky (kC M kx)) := by
  obtain ⟨r1, r2, r3, r4, r5⟩ := h.1.row (i := i) (b := b) (by have := h.2.1; omega)
  have hcn := h.2.2.1 i b hi
  rcases c_find r1 hk with ⟨k, hk1, e1, e2⟩ | ⟨e1, e2⟩
  · rw [r5 k hk1] at e2
    rw [r4] at hk1
    have hm := getD_mem (d := ((0, 0, 0, 0, 0), (0 : Int))) hk1
    rw [hcn] at hm
    obtain ⟨x, hx, ex⟩ := List.mem_map.mp hm
    have hx2 := List.mem_filter.mp hx
    refine Or.inl ⟨k, x, by rw [r4]; exact hk1, e1, hx2.1, hx2.2, ?_, by rw [hcn]; exact ex.symm⟩
    rw [hcn, ← ex] at e2
    exact e2
  · refine Or.inr ⟨e1, fun x hx hin q => ?_⟩
    have hm : kad x ∈ (T.filter (inB n own i b)).map kad := List.mem_map.mpr ⟨x, List.mem_filter.mpr ⟨hx, hin⟩, rfl⟩
    rw [← hcn, ← h.1.2.2.2.2.2.2.1 i b (by have := h.2.1; omega)] at hm
    obtain ⟨c, hc, ec⟩ := List.mem_map.mp hm
    exact e2 c hc (by rw [ec]; exact q)
theorem inB_own {x : Row} {C : Nat} (hC : kc x.1 own = ((C : Nat) : Int)) : bkI n own x = min C (n - 1) := by
  unfold bkI
  rw [hC, Int.toNat_natCast]
theorem inB_iff {x : Row} : inB n own i b x = true ↔ bkI n own x = i ∧ x.2.2 = b := by
  unfold inB
  simp only [Bool.and_eq_true, decide_eq_true_eq, beq_iff_eq]
theorem Cn_getkey {x : Row} {k : Nat} {l : List (Ky × Int)} (h : l.getD k ((0, 0, 0, 0, 0), 0) = kad x) : (l.getD k ((0, 0, 0, 0, 0), 0)).1 = x.1 := by rw [h]; rfl
theorem hex_aux {C n i0 : Nat} (h : i0 = min C (n - 1)) (hx : ¬ (i0 = n - 1 ∧ n < 160)) (hn : 1 ≤ n) (hn2 : n ≤ 160) (hC : C < 160) : i0 = C ∧ (C < n - 1 ∨ n = 160) := by omega
/-- what comes behind the splits -/
theorem c_see123 {C : Nat} (h : TT M ow t ko m own T pf n bA B P Cn fl a len sp) (hk : isK M kx) (hkx : (kd M kx).2 ≠ 38) (hown : kyo own) (hC : kc (ky (kC M kx)) own = ((C : Nat) : Int)) (hC2 : C < 160) (had : w32 ad = ad) (hl : T.length < 1100) (hsp : sp.length ≤ 40000) (hnr : ∀ x, x ∈ T → x.1 = ky (kC M kx) → x.2.2 = true) (hex : ¬ ((P (min C (n - 1)) false).length = m ∧ min C (n - 1) = n - 1 ∧ n < 160)) :
    ∃ (M' : MM) (ow' : Nat → Nat × Nat) (P' : Nat → Bool → List Nat) (Cn' : Nat → Bool → List (Ky × Int)) (a' len' : Nat) (sp' : List Nat) (res : Int), j_X20_see_123 (t : Int) (kx : Int) ad ((B (min C (n - 1)) : Nat) : Int) M = some (res, M') ∧ TT M' ow' t ko m own (seeT m own (ky (kC M kx)) ad T).1 pf n bA B P' Cn' fl a' len' sp' ∧ (if (seeT m own (ky (kC M kx)) ad T).2 = true then (C < n ∧ (C < n - 1 ∨ n = 160) ∧ res = if pf C = true then -1 else ((B C : Nat) : Int)) else res = -1) ∧ KL sp.length sp'.length T.length (seeT m own (ky (kC M kx)) ad T).1.length ∧ Ac M M' (sp.length + T.length) (sp'.length + (seeT m own (ky (kC M kx)) ad T).1.length) bA bA len len' m ∧ StF M ow B bA t a M' ow' a' := by
  obtain ⟨tp, h1, h2, h3, h4, h5, h6⟩ := id h
  obtain ⟨hu, hS, hO, hko, hB, hP, hCn, hF, hL, hN, hW, ht⟩ := id tp
  obtain ⟨key, hkey⟩ : ∃ key, key = ky (kC M kx) := ⟨_, rfl⟩
  rw [← hkey] at hC hnr ⊢
  obtain ⟨i0, hi0⟩ : ∃ i0, i0 = min C (n - 1) := ⟨_, rfl⟩
  rw [← hi0] at hex ⊢
  have hb := hB.1
  have i0n : i0 < n := by omega
  have i0b : i0 < bA := by omega
  have hkok : kyo key := by rw [hkey]; exact kyo_ky (kC_ok _ _)
  have hno : key ≠ own := fun q => by
    have := (kc_160 hkok hown).mpr q
    omega
  have bk := (hB.2.1 i0 i0b).2.1
  have rowF : RowC M (B i0 + 1) m (P i0 false) := (hP i0 false i0b).1
  have rowT : RowC M (B i0 + 3) m (P i0 true) := (hP i0 true i0b).1
  have e3 : rwA B i0 true = B i0 + 3 := rfl
  have e1 : rwA B i0 false = B i0 + 1 := rfl
  have lF : (P i0 false).length = (T.filter (inB n own i0 false)).length := by
    rw [(h.1.row (b := false) i0b).2.2.2.1, h2 i0 false i0n, List.length_map]
  have lT : (P i0 true).length = (T.filter (inB n own i0 true)).length := by
    rw [(h.1.row (b := true) i0b).2.2.2.1, h2 i0 true i0n, List.length_map]
  have hbk : ∀ x : Row, x.1 = key → bkI n own x = i0 := fun x q => by rw [inB_own (C := C) (by rw [q]; exact hC), hi0]
  have lfm := rowF.2.2.1
  have m20 : m ≤ 20 := hS.2.2.2.2.2.2.2.2.2
  have b0 : (28 : Int) = ((28 : Nat) : Int) := rfl
  have g20 : gfr 20 2 (t : Int) M = some ((28 : Nat) : Int) := by rw [gfr_e hS.1, hS.2.2.2.2.1]
  have ck9 : ∀ (M : MM) {α : Type} (X : Option α), (kd M 28).1 = 9 → ck 9 ((28 : Nat) : Int) M X = X := fun M α X hh => ck_e hh
  unfold j_X20_see_123
  have fi := tt_find (b := true) (kx := kx) h hk i0n
  rw [e3, ← hkey] at fi
  by_cases cf : (P i0 false).length = m
  · -- the row is full: of one number
    have hex2 := hex_aux hi0 (fun q => hex ⟨cf, q⟩) h1.1 (Nat.le_trans h1.2 hb) hC2
    have hCn' : C < n := hex2.1 ▸ i0n
    have lF2 : (T.filter (pr own (kc key own) false)).length = m := by rw [hC, ← inB_pr h5 hown hC2 h1.1 hex2.2, ← hex2.1, ← lF]; exact cf
    have lT2 : (P i0 true).length = (T.filter (pr own (kc key own) true)).length := by rw [hC, ← inB_pr h5 hown hC2 h1.1 hex2.2, ← hex2.1]; exact lT
    have hcnt : ¬ (T.filter (pr own (kc key own) false)).length < m := by rw [lF2]; exact Nat.lt_irrefl _
    have flb : rI M (B i0) 2 = b2i (pf C) := by rw [hF i0 i0b, h4 i0 i0n, hex2.1]
    -- the end of it
    have hend : ∀ (M' : MM) (ow' : Nat → Nat × Nat) (T' : List Row) (P' : Nat → Bool → List Nat) (Cn' : Nat → Bool → List (Ky × Int)) (a' len' : Nat) (sp' : List Nat), TT M' ow' t ko m own T' pf n bA B P' Cn' fl a' len' sp' → ((gfi 21 2 ((B i0 : Nat) : Int) M').bind fun v5 => if w32 v5 = 0 then j_X20_see_211 ((B i0 : Nat) : Int) M' else j_X20_see_211 (-1) M') = some (if pf C = true then -1 else ((B C : Nat) : Int), M') := by
      intro M' ow' T' P' Cn' a' len' sp' hT'
      have bk' := (hT'.1.2.2.2.2.1.2.1 i0 i0b).2.1
      have fl' : rI M' (B i0) 2 = b2i (pf C) := by rw [hT'.1.2.2.2.2.2.2.2.1 i0 i0b, h4 i0 i0n, hex2.1]
      unfold j_X20_see_211
      rw [gfi_e (by rw [bk'.1]), Option.bind_some, fl', w32_b2i, hex2.1]
      cases pf C with
      | true => rw [if_neg (by decide), if_pos rfl]
      | false => rw [if_pos (by decide), if_neg (by decide)]
    rcases fi with ⟨k, x, f1, f2, f3, f4, f5, f6⟩ | ⟨f2, f3⟩
    · -- among the reserves
      have hxr : x.2.2 = true := (inB_iff.mp f4).2
      have es : seeT m own key ad T = (if x.2.1 = ad then rmT T key ++ [x] else T, true) := by
        unfold seeT
        rw [if_neg hno, ← f5, fnd_some h5.2.1 f3]
        show (if x.2.2 = false then _ else _) = _
        rw [if_neg (by rw [hxr]; decide), f5, if_neg hcnt]
      rw [es, gfr_e (by rw [bk.1]), bk.2.2.1, Option.bind_some, ck_e bk.2.2.2.2.1, f2, Option.bind_some, gfr_e (by rw [bk.1]), bk.2.1, Option.bind_some, ck_e bk.2.2.2.1.1, c_isFull rowF, Option.bind_some, w32_b2i, if_neg (by rw [b2i_0]; simpa using cf), ck_e hS.1]
      obtain ⟨r1, r2, r3, r4, r5⟩ := h.1.row (b := true) i0b
      have hct := rowT.2.2.2.2.2 _ (getD_mem (d := 0) f1)
      have hadr : rI M ((P i0 true).getD k 0) 1 = x.2.1 := by
        have := congrArg Prod.snd ((r5 k f1).trans f6)
        exact this
      have hrR : rR M (B i0 + 3 + 1) k = (((P i0 true).getD k 0 : Nat) : Int) := rowT.2.2.2.2.1 k f1
      have hwx : w32 x.2.1 = x.2.1 := by rw [← hadr, w32_rI]
      have km : k < m := Nat.lt_of_lt_of_le f1 rowT.2.2.1
      unfold f_X20_reserve j_X20_reserve_30
      rw [w32_m1, w32_nn (Nat.le_trans (Nat.le_of_lt km) (Nat.le_trans m20 (by decide))), if_neg (fun q => by have : (0 : Int) ≤ (k : Int) := Int.natCast_nonneg k; rw [q] at this; exact absurd this (by decide)), gfr_e (by rw [bk.1]), bk.2.2.1, Option.bind_some, Option.bind_some, gfr_e bk.2.2.2.2.1, bk.2.2.2.2.2.1, Option.bind_some, lar_n bk.2.2.2.2.2.2 (by decide) km (Nat.le_trans m20 (by decide)), Option.bind_some, hrR, gfi_e (by rw [hct.1]), Option.bind_some, hadr, hwx, had, ck_e bk.2.2.2.2.1]
      by_cases ca : x.2.1 = ad
      · rw [if_pos ca, if_pos ca]
        obtain ⟨M', o1, o2, o3⟩ := op_touch (b := true) h.1 i0b f1
        rw [e3] at o1
        rw [o1, Option.bind_some, Option.bind_some]
        have hxT : kad x = (Cn i0 true).getD k ((0, 0, 0, 0, 0), 0) := f6.symm
        have hTT : TT M' ow t ko m own (rmT T key ++ [x]) pf n bA B (up2 P i0 true ((P i0 true).eraseIdx k ++ [(P i0 true).getD k 0])) (up2 Cn i0 true ((Cn i0 true).eraseIdx k ++ [(Cn i0 true).getD k ((0, 0, 0, 0, 0), 0)])) fl a len sp := by
          refine tt_of h o2 (fun i b hi => ?_) (fun i b q1 q2 => up2_ne (by omega)) ?_ ?_
          · rw [cn_add]
            have hrm := cn_rm (k := k) h5 f3 f4 (by rw [← h2 i0 true i0n, ← r4]; exact f1) (by rw [← h2 i0 true i0n, f6]; rfl) i b
            rw [f5] at hrm
            rw [hrm, hbk x f5, hxr]
            by_cases q : i = i0 ∧ b = true
            · rw [if_pos q, q.1, q.2, up2_eq, up2_eq, ← h2 i0 true i0n, f6]
            · rw [if_neg q, up2_ne q, up2_ne q]; exact h2 i b hi
          · refine okT_add (okT_rm h5) (by have := rmT_len h5 f3; rw [f5] at this; omega) (h5.2.2 x f3) (fun y hy => by rw [f5]; exact (rmT_mem.mp hy).2)
          · intro hn
            refine ⟨fun y hy hr => ?_, (h6 hn).2⟩
            rcases List.mem_append.mp hy with w | w
            · exact (h6 hn).1 y (rmT_mem.mp w).1 hr
            · simp at w; rw [w]; exact (h6 hn).1 x f3 hxr
        refine ⟨M', ow, _, _, a, len, sp, _, hend _ _ _ _ _ _ _ _ hTT, hTT, ?_, ⟨by omega, Or.inl (Nat.le_of_eq ?_)⟩, Ac.same o3.nN o3.nU ?_, stf_row i0b o3⟩
        · rw [if_pos rfl]
          exact ⟨hCn', hex2.2, rfl⟩
        · have := rmT_len h5 f3
          rw [f5] at this
          show sp.length + (rmT T key ++ [x]).length = _
          rw [List.length_append, List.length_singleton]; omega
        · have := rmT_len h5 f3
          rw [f5] at this
          show sp.length + (rmT T key ++ [x]).length = _
          rw [List.length_append, List.length_singleton]; omega
      · rw [if_neg ca, if_neg ca, Option.bind_some]
        refine ⟨M, ow, P, Cn, a, len, sp, _, hend _ _ _ _ _ _ _ _ h, h, ?_, ⟨by omega, Or.inl (Nat.le_refl _)⟩, Ac.same rfl rfl rfl, StF.refl⟩
        rw [if_pos rfl]
        exact ⟨hCn', hex2.2, rfl⟩
    · -- new
      have hnk : ∀ y, y ∈ T → y.1 ≠ key := fun y hy q => f3 y hy (inB_iff.mpr ⟨hbk y q, hnr y hy q⟩) q
      rw [gfr_e (by rw [bk.1]), bk.2.2.1, Option.bind_some, ck_e bk.2.2.2.2.1, f2, Option.bind_some, gfr_e (by rw [bk.1]), bk.2.1, Option.bind_some, ck_e bk.2.2.2.1.1, c_isFull rowF, Option.bind_some, w32_b2i, if_neg (by rw [b2i_0]; simpa using cf), ck_e hS.1]
      unfold f_X20_reserve
      rw [if_pos rfl, gfr_e (by rw [bk.1]), bk.2.2.1, Option.bind_some, ck_e bk.2.2.2.2.1, c_isFull rowT, Option.bind_some, w32_b2i]
      have okf : ∀ Tx : List Row, (∀ y, y ∈ Tx → y ∈ T) → okF n own (Tx ++ [(key, ad, true)]) pf := fun Tx hTx hn => by
        refine ⟨fun y hy hr => ?_, (h6 hn).2⟩
        rcases List.mem_append.mp hy with w | w
        · exact (h6 hn).1 y (hTx y w) hr
        · simp at w; rw [w]; show kc key own < _; rw [hC]; omega
      -- one more among the reserves
      have hadd : ∀ (M0 : MM) (ow0 : Nat → Nat × Nat) (T0 : List Row) (P0 : Nat → Bool → List Nat) (Cn0 : Nat → Bool → List (Ky × Int)) (a0 len0 : Nat) (sp0 : List Nat), TT M0 ow0 t ko m own T0 pf n bA B P0 Cn0 fl a0 len0 sp0 → isK M0 kx → (kd M0 kx).2 ≠ 38 → ky (kC M0 kx) = key → (P0 i0 true).length < m → (∀ y, y ∈ T0 → y ∈ T) → T0.length ≤ T.length → ∃ (M' : MM) (ow' : Nat → Nat × Nat) (P' : Nat → Bool → List Nat) (Cn' : Nat → Bool → List (Ky × Int)) (sp' : List Nat), j_X20_reserve_56 (t : Int) ((B i0 : Nat) : Int) (kx : Int) ad M0 = some M' ∧ TT M' ow' t ko m own (T0 ++ [(key, ad, true)]) pf n bA B P' Cn' fl a0 len0 sp' ∧ (sp'.length ≤ sp0.length ∧ (sp'.length + 1 = sp0.length ∨ sp'.length = 0)) ∧ Ac M0 M' (sp0.length + T0.length) (sp'.length + (T0.length + 1)) bA bA len0 len0 m ∧ StF M0 ow0 B bA t a0 M' ow' a0 := by
        intro M0 ow0 T0 P0 Cn0 a0 len0 sp0 hT0 hk0 hkx0 hkk0 hl0 hsub hlen0
        obtain ⟨c, M1, M2, sp', q1, q2, q3, q4, q5, q6⟩ := op_add (b := true) hT0.1 i0b hl0 hk0 hkx0 had
        rw [e3] at q2 q3
        have bk0 := (hT0.1.2.2.2.2.1.2.1 i0 i0b).2.1
        have hS0 := hT0.1.2.1
        refine ⟨M2, _, _, _, sp', ?_, tt_of hT0 q4 (fun i b hi => ?_) (fun i b w1 w2 => up2_ne (by omega)) ?_ (okf T0 hsub), ?_, Ac.take ?_, stf_add i0b ht ?_ q6⟩
        · unfold j_X20_reserve_56
          rw [gfr_e (by rw [bk0.1]), bk0.2.2.1, Option.bind_some, gfr_e hS0.1, hS0.2.2.2.2.1, Option.bind_some, ck_e hT0.1.2.2.2.2.2.2.2.2.1.1]
          rw [show f_X9_take ((28 : Nat) : Int) (kx : Int) ad M0 = _ from q1, Option.bind_some]
          dsimp only
          rw [ck_e q2, q3, Option.bind_some]
        · rw [cn_add, hbk (key, ad, true) rfl]
          show _ = if i = i0 ∧ b = true then _ else _
          by_cases q : i = i0 ∧ b = true
          · rw [if_pos q, q.1, q.2, up2_eq, hT0.2.2.1 i0 true i0n, hkk0]; rfl
          · rw [if_neg q, up2_ne q]; exact hT0.2.2.1 i b hi
        · have okT0 := hT0.2.2.2.2.2.1
          refine okT_add okT0 ?_ ⟨hkok, had, hno⟩ (fun y hy => hnk y (hsub y hy))
          exact Nat.lt_of_le_of_lt hlen0 hl
        · rcases q5 with w | w
          · rw [w.1, List.length_append]; exact ⟨Nat.le_add_right _ _, Or.inl rfl⟩
          · rw [w.2.1]; exact ⟨Nat.zero_le _, Or.inr rfl⟩
        · rcases q5 with w | w
          · refine Or.inl ⟨?_, w.2.2.2.1, w.2.2.2.2⟩
            rw [w.1, List.length_append, List.length_singleton]; omega
          · refine Or.inr ⟨?_, w.2.2.2.1, w.2.2.2.2⟩
            rw [w.1, w.2.1]; omega
        · rcases q5 with w | w
          · exact Or.inl ⟨w.2.1, w.2.2.1⟩
          · exact Or.inr w.2.2.1
      by_cases cr : (P i0 true).length = m
      · rw [if_neg (by rw [b2i_0]; simpa using cr)]
        have hp0 : 0 < (P i0 true).length := by rw [cr]; exact hS.2.2.2.2.2.2.2.2.1
        obtain ⟨c, M1, M2, a2, len2, q1, q2, q3, q4, q5, q6, q7⟩ := op_del (k := 0) (b := true) h.1 i0b hp0 (Nat.le_trans hsp (by decide))
        rw [e3] at q1
        have hCl : 0 < (Cn i0 true).length := by rw [← (h.1.row (b := true) i0b).2.2.2.1]; exact hp0
        -- the first of the reserves
        obtain ⟨y, hy1, hy2⟩ : ∃ y, y ∈ T.filter (inB n own i0 true) ∧ (T.filter (pr own (kc key own) true)).head? = some y ∧ (Cn i0 true).getD 0 ((0, 0, 0, 0, 0), 0) = kad y := by
          have ef : T.filter (inB n own i0 true) = T.filter (pr own (kc key own) true) := by rw [hC, ← inB_pr h5 hown hC2 h1.1 hex2.2, ← hex2.1]
          rw [h2 i0 true i0n, ef] at hCl ⊢
          cases hq : T.filter (pr own (kc key own) true) with
          | nil => rw [hq] at hCl; simp at hCl
          | cons y l => exact ⟨y, by simp, rfl, rfl⟩
        have hyT := List.mem_filter.mp hy1
        have es : seeT m own key ad T = (rmT T y.1 ++ [(key, ad, true)], true) := by
          unfold seeT
          rw [if_neg hno, fnd_none hnk]
          show (if _ < m then _ else _) = _
          rw [if_neg hcnt, if_pos (by rw [← lT2]; exact cr), hy2.1]
        have hTT : TT M2 (fup ow c (28, 28)) t ko m own (rmT T y.1) pf n bA B (up2 P i0 true ((P i0 true).eraseIdx 0)) (up2 Cn i0 true ((Cn i0 true).eraseIdx 0)) fl a2 len2 (sp ++ [c]) := by
          refine tt_of h q4 (fun i b hi => ?_) (fun i b w1 w2 => up2_ne (by omega)) (okT_rm h5) ?_
          · have hrm := cn_rm (k := 0) h5 hyT.1 hyT.2 (by rw [← h2 i0 true i0n]; exact hCl) (by rw [← h2 i0 true i0n, hy2.2]; rfl) i b
            rw [hrm, ← h2 i0 true i0n]
            by_cases q : i = i0 ∧ b = true
            · rw [q.1, q.2, up2_eq, up2_eq]
            · rw [up2_ne q, up2_ne q]; exact h2 i b hi
          · intro hn
            exact ⟨fun z hz hr => (h6 hn).1 z (rmT_mem.mp hz).1 hr, (h6 hn).2⟩
        have st1 : StF M ow B bA t a M2 (fup ow c (28, 28)) a2 := stf_del i0b (by
          have := (h.1.row (b := true) i0b).2.2.1 c (by rw [q5]; exact getD_mem hp0)
          rw [this]) (by rcases q6 with w | w; exact Or.inl w.1; exact Or.inr w.2.1) q7
        have lkx := isK_lt hu hk
        have nkx : ∀ z, (z = kx ∨ z = kx + 1) → ¬ (z = 28 ∨ z = a ∨ (z = rwA B i0 true ∨ z = rwA B i0 true + 1)) := by
          intro z hz q
          have kz : (kd M z).1 = 3 ∨ kd M z = (64, 5) := by
            rcases hz with e | e
            · rw [e]; exact Or.inl hk.1
            · rw [e]; exact Or.inr hk.2.2
          have bad : (kd M z).1 = 9 ∨ (kd M z).1 = 166 ∨ (kd M z).1 = 470 ∨ (kd M z).1 = 22 ∨ (kd M z).1 = 486 := by
            rcases q with e | e | e | e
            · rw [e]; exact Or.inl hL.1
            · rw [e]; rcases hL.2.2.1 with w | w
              · rw [w]; exact Or.inr (Or.inl rfl)
              · rw [w]; exact Or.inr (Or.inr (Or.inl rfl))
            · rw [e, (isBk_row (b := true) bk).1]; exact Or.inr (Or.inr (Or.inr (Or.inl rfl)))
            · rw [e, (isBk_row (b := true) bk).2.2]; exact Or.inr (Or.inr (Or.inr (Or.inr rfl)))
          rcases kz with w | w
          · omega
          · rw [w] at bad; simp at bad
        have hk2 : isK M2 kx := q7.isK hu (nkx kx (Or.inl rfl)) hk
        have hkd2 : kd M2 kx = kd M kx := q7.kd (by omega)
        have hkk2 : kC M2 kx = kC M kx := q7.kC lkx (nkx (kx + 1) (Or.inr rfl))
        obtain ⟨M', ow', P', Cn', sp', w1, w2, w3, wA, w4⟩ := hadd M2 _ _ _ _ a2 len2 _ hTT hk2 (by rw [hkd2]; exact hkx) (by rw [hkk2, hkey]) (by
          rw [up2_eq, List.length_eraseIdx_of_lt hp0, cr]
          have := hS.2.2.2.2.2.2.2.2.1
          omega) (fun z hz => (rmT_mem.mp hz).1) (List.length_filter_le _ _)
        rw [es, g20, Option.bind_some, Option.bind_some, ck_e bk.2.2.2.2.1]
        rw [show f_X22_remove ((B i0 + 3 : Nat) : Int) 0 M = _ from q1, Option.bind_some]
        dsimp only
        rw [ck_e q2, show f_X9_give ((28 : Nat) : Int) (c : Int) M1 = _ from q3, Option.bind_some, w1, Option.bind_some]
        refine ⟨M', ow', P', Cn', a2, len2, sp', _, hend _ _ _ _ _ _ _ _ w2, w2, ?_, ?_, ?_, st1.trans w4 (fun _ _ => rfl) (fun i q1 q2 => by omega)⟩
        · rw [if_pos rfl]
          exact ⟨hCn', hex2.2, rfl⟩
        · have l1 := rmT_len h5 hyT.1
          have l2 : (rmT T y.1 ++ [(key, ad, true)]).length = (rmT T y.1).length + 1 := by simp
          rw [List.length_append, List.length_singleton] at w3
          refine ⟨w3.1, w3.2.elim (fun w => Or.inl ?_) Or.inr⟩
          show sp'.length + (rmT T y.1 ++ [(key, ad, true)]).length ≤ _
          omega
        · refine (Ac.give ?_ q6 hL.2.2.2.2.2.1.1).trans (K1 := (sp ++ [c]).length + (rmT T y.1).length) ?_
          · have := rmT_len h5 hyT.1
            rw [List.length_append, List.length_singleton]; omega
          · show Ac M2 M' _ (sp'.length + (rmT T y.1 ++ [(key, ad, true)]).length) bA bA len2 len2 m
            rw [show (rmT T y.1 ++ [(key, ad, true)]).length = (rmT T y.1).length + 1 by simp]; exact wA
      · rw [if_pos (by rw [b2i_0]; simpa using cr)]
        have es : seeT m own key ad T = (T ++ [(key, ad, true)], true) := by
          unfold seeT
          rw [if_neg hno, fnd_none hnk]
          show (if _ < m then _ else _) = _
          rw [if_neg hcnt, if_neg (by rw [← lT2]; exact cr)]
        obtain ⟨M', ow', P', Cn', sp', w1, w2, w3, wA, w4⟩ := hadd M ow T P Cn a len sp h hk hkx hkey.symm (Nat.lt_of_le_of_ne rowT.2.2.1 cr) (fun _ hy => hy) (Nat.le_refl _)
        rw [es, w1, Option.bind_some]
        refine ⟨M', ow', P', Cn', a, len, sp', _, hend _ _ _ _ _ _ _ _ w2, w2, ?_, ⟨by omega, w3.2.elim (fun w => Or.inl (by show sp'.length + (T ++ [(key, ad, true)]).length ≤ _; rw [List.length_append, List.length_singleton]; omega)) Or.inr⟩, by rw [show (T ++ [(key, ad, true)], true).1.length = T.length + 1 by simp]; exact wA, w4⟩
        rw [if_pos rfl]
        exact ⟨hCn', hex2.2, rfl⟩
  · -- there is room
    have hlt : (P i0 false).length < m := Nat.lt_of_le_of_ne lfm cf
    have hcnt : (T.filter (pr own (kc key own) false)).length < m := by
      have e : T.filter (pr own (kc key own) false) = (T.filter (inB n own i0 false)).filter (pr own (kc key own) false) := by
        rw [List.filter_filter]
        apply List.filter_congr
        intro z _
        cases hq : pr own (kc key own) false z with
        | false => rfl
        | true =>
          have hz : inB n own i0 false z = true := by
            unfold pr at hq
            simp only [Bool.and_eq_true, decide_eq_true_eq, beq_iff_eq] at hq
            exact inB_iff.mpr ⟨by rw [inB_own (C := C) (by rw [hq.1, hC]), hi0], hq.2⟩
          rw [hz]; rfl
      rw [e]
      exact Nat.lt_of_le_of_lt (List.length_filter_le _ _) (by rw [← lF]; exact hlt)
    have hadd : ∀ (M0 : MM) (ow0 : Nat → Nat × Nat) (T0 : List Row) (P0 : Nat → Bool → List Nat) (Cn0 : Nat → Bool → List (Ky × Int)) (a0 len0 : Nat) (sp0 : List Nat), TT M0 ow0 t ko m own T0 pf n bA B P0 Cn0 fl a0 len0 sp0 → isK M0 kx → (kd M0 kx).2 ≠ 38 → ky (kC M0 kx) = key → (P0 i0 false).length < m → (∀ y, y ∈ T0 → y ∈ T) → (∀ y, y ∈ T0 → y.1 ≠ key) → T0.length ≤ T.length → ∃ (M' : MM) (ow' : Nat → Nat × Nat) (P' : Nat → Bool → List Nat) (Cn' : Nat → Bool → List (Ky × Int)) (sp' : List Nat), j_X20_see_168 (t : Int) (kx : Int) ad ((B i0 : Nat) : Int) M0 = some (-1, M') ∧ TT M' ow' t ko m own (T0 ++ [(key, ad, false)]) pf n bA B P' Cn' fl a0 len0 sp' ∧ (sp'.length ≤ sp0.length ∧ (sp'.length + 1 = sp0.length ∨ sp'.length = 0)) ∧ Ac M0 M' (sp0.length + T0.length) (sp'.length + (T0.length + 1)) bA bA len0 len0 m ∧ StF M0 ow0 B bA t a0 M' ow' a0 := by
      intro M0 ow0 T0 P0 Cn0 a0 len0 sp0 hT0 hk0 hkx0 hkk0 hl0 hsub hnk hlen0
      obtain ⟨c, M1, M2, sp', q1, q2, q3, q4, q5, q6⟩ := op_add (b := false) hT0.1 i0b hl0 hk0 hkx0 had
      rw [e1] at q2 q3
      have bk0 := (hT0.1.2.2.2.2.1.2.1 i0 i0b).2.1
      have hS0 := hT0.1.2.1
      refine ⟨M2, _, _, _, sp', ?_, tt_of hT0 q4 (fun i b hi => ?_) (fun i b w1 w2 => up2_ne (by omega)) ?_ ?_, ?_, Ac.take ?_, stf_add i0b ht ?_ q6⟩
      · unfold j_X20_see_168
        rw [gfr_e (by rw [bk0.1]), bk0.2.1, Option.bind_some, gfr_e hS0.1, hS0.2.2.2.2.1, Option.bind_some, ck_e hT0.1.2.2.2.2.2.2.2.2.1.1]
        rw [show f_X9_take ((28 : Nat) : Int) (kx : Int) ad M0 = _ from q1, Option.bind_some]
        dsimp only
        rw [ck_e q2, q3, Option.bind_some]
      · rw [cn_add, hbk (key, ad, false) rfl]
        show _ = if i = i0 ∧ b = false then _ else _
        by_cases q : i = i0 ∧ b = false
        · rw [if_pos q, q.1, q.2, up2_eq, hT0.2.2.1 i0 false i0n, hkk0]; rfl
        · rw [if_neg q, up2_ne q]; exact hT0.2.2.1 i b hi
      · exact okT_add hT0.2.2.2.2.2.1 (Nat.lt_of_le_of_lt hlen0 hl) ⟨hkok, had, hno⟩ hnk
      · intro hn
        refine ⟨fun y hy hr => ?_, (h6 hn).2⟩
        rcases List.mem_append.mp hy with w | w
        · exact (h6 hn).1 y (hsub y w) hr
        · simp at w; rw [w] at hr; cases hr
      · rcases q5 with w | w
        · rw [w.1, List.length_append]; exact ⟨Nat.le_add_right _ _, Or.inl rfl⟩
        · rw [w.2.1]; exact ⟨Nat.zero_le _, Or.inr rfl⟩
      · rcases q5 with w | w
        · refine Or.inl ⟨?_, w.2.2.2.1, w.2.2.2.2⟩
          rw [w.1, List.length_append, List.length_singleton]; omega
        · refine Or.inr ⟨?_, w.2.2.2.1, w.2.2.2.2⟩
          rw [w.1, w.2.1]; omega
      · rcases q5 with w | w
        · exact Or.inl ⟨w.2.1, w.2.2.1⟩
        · exact Or.inr w.2.2.1
    rcases fi with ⟨k, x, f1, f2, f3, f4, f5, f6⟩ | ⟨f2, f3⟩
    · have hxr : x.2.2 = true := (inB_iff.mp f4).2
      have km : k < m := Nat.lt_of_lt_of_le f1 rowT.2.2.1
      have es : seeT m own key ad T = (rmT T key ++ [(key, ad, false)], false) := by
        unfold seeT
        rw [if_neg hno, ← f5, fnd_some h5.2.1 f3]
        show (if x.2.2 = false then _ else _) = _
        rw [if_neg (by rw [hxr]; decide), f5, if_pos hcnt]
      obtain ⟨c, M1, M2, a2, len2, q1, q2, q3, q4, q5, q6, q7⟩ := op_del (k := k) (b := true) h.1 i0b f1 (Nat.le_trans hsp (by decide))
      rw [e3] at q1
      have hTT : TT M2 (fup ow c (28, 28)) t ko m own (rmT T key) pf n bA B (up2 P i0 true ((P i0 true).eraseIdx k)) (up2 Cn i0 true ((Cn i0 true).eraseIdx k)) fl a2 len2 (sp ++ [c]) := by
        refine tt_of h q4 (fun i b hi => ?_) (fun i b w1 w2 => up2_ne (by omega)) (okT_rm h5) ?_
        · have hrm := cn_rm (k := k) h5 f3 f4 (by rw [← h2 i0 true i0n, ← (h.1.row (b := true) i0b).2.2.2.1]; exact f1) (by rw [← h2 i0 true i0n, f6]; rfl) i b
          rw [f5] at hrm
          rw [hrm, ← h2 i0 true i0n]
          by_cases q : i = i0 ∧ b = true
          · rw [q.1, q.2, up2_eq, up2_eq]
          · rw [up2_ne q, up2_ne q]; exact h2 i b hi
        · intro hn
          exact ⟨fun z hz hr => (h6 hn).1 z (rmT_mem.mp hz).1 hr, (h6 hn).2⟩
      have st1 : StF M ow B bA t a M2 (fup ow c (28, 28)) a2 := stf_del i0b (by
        have := (h.1.row (b := true) i0b).2.2.1 c (by rw [q5]; exact getD_mem f1)
        rw [this]) (by rcases q6 with w | w; exact Or.inl w.1; exact Or.inr w.2.1) q7
      have lkx := isK_lt hu hk
      have nkx : ∀ z, (z = kx ∨ z = kx + 1) → ¬ (z = 28 ∨ z = a ∨ (z = rwA B i0 true ∨ z = rwA B i0 true + 1)) := by
        intro z hz q
        have kz : (kd M z).1 = 3 ∨ kd M z = (64, 5) := by
          rcases hz with e | e
          · rw [e]; exact Or.inl hk.1
          · rw [e]; exact Or.inr hk.2.2
        have bad : (kd M z).1 = 9 ∨ (kd M z).1 = 166 ∨ (kd M z).1 = 470 ∨ (kd M z).1 = 22 ∨ (kd M z).1 = 486 := by
          rcases q with e | e | e | e
          · rw [e]; exact Or.inl hL.1
          · rw [e]; rcases hL.2.2.1 with w | w
            · rw [w]; exact Or.inr (Or.inl rfl)
            · rw [w]; exact Or.inr (Or.inr (Or.inl rfl))
          · rw [e, (isBk_row (b := true) bk).1]; exact Or.inr (Or.inr (Or.inr (Or.inl rfl)))
          · rw [e, (isBk_row (b := true) bk).2.2]; exact Or.inr (Or.inr (Or.inr (Or.inr rfl)))
        rcases kz with w | w
        · omega
        · rw [w] at bad; simp at bad
      have hk2 : isK M2 kx := q7.isK hu (nkx kx (Or.inl rfl)) hk
      have hkd2 : kd M2 kx = kd M kx := q7.kd (by omega)
      have hkk2 : kC M2 kx = kC M kx := q7.kC lkx (nkx (kx + 1) (Or.inr rfl))
      obtain ⟨M', ow', P', Cn', sp', w1, w2, w3, wA, w4⟩ := hadd M2 _ _ _ _ a2 len2 _ hTT hk2 (by rw [hkd2]; exact hkx) (by rw [hkk2, hkey]) (by rw [up2_ne (by simp)]; exact hlt) (fun z hz => (rmT_mem.mp hz).1) (fun z hz => (rmT_mem.mp hz).2) (List.length_filter_le _ _)
      rw [es, gfr_e (by rw [bk.1]), bk.2.2.1, Option.bind_some, ck_e bk.2.2.2.2.1, f2, Option.bind_some, gfr_e (by rw [bk.1]), bk.2.1, Option.bind_some, ck_e bk.2.2.2.1.1, c_isFull rowF, Option.bind_some, w32_b2i, if_pos (by rw [b2i_0]; simpa using cf), w32_m1, w32_nn (Nat.le_trans (Nat.le_of_lt km) (Nat.le_trans m20 (by decide))), if_neg (fun q => by have : (0 : Int) ≤ (k : Int) := Int.natCast_nonneg k; rw [q] at this; exact absurd this (by decide)), g20, Option.bind_some, Option.bind_some, ck_e bk.2.2.2.2.1, q1, Option.bind_some]
      dsimp only
      rw [ck_e q2, show f_X9_give ((28 : Nat) : Int) (c : Int) M1 = _ from q3, Option.bind_some, w1]
      refine ⟨M', ow', P', Cn', a2, len2, sp', _, rfl, w2, ?_, ?_, ?_, st1.trans w4 (fun _ _ => rfl) (fun i q1 q2 => by omega)⟩
      · rw [if_neg (by simp)]
      · have l1 := rmT_len h5 f3
        rw [f5] at l1
        have l2 : (rmT T key ++ [(key, ad, false)]).length = (rmT T key).length + 1 := by simp
        rw [List.length_append, List.length_singleton] at w3
        refine ⟨w3.1, w3.2.elim (fun w => Or.inl ?_) Or.inr⟩
        show sp'.length + (rmT T key ++ [(key, ad, false)]).length ≤ _
        omega
      · refine (Ac.give ?_ q6 hL.2.2.2.2.2.1.1).trans (K1 := (sp ++ [c]).length + (rmT T key).length) ?_
        · have := rmT_len h5 f3
          rw [f5] at this
          rw [List.length_append, List.length_singleton]; omega
        · show Ac M2 M' _ (sp'.length + (rmT T key ++ [(key, ad, false)]).length) bA bA len2 len2 m
          rw [show (rmT T key ++ [(key, ad, false)]).length = (rmT T key).length + 1 by simp]; exact wA
    · have hnk : ∀ y, y ∈ T → y.1 ≠ key := fun y hy q => f3 y hy (inB_iff.mpr ⟨hbk y q, hnr y hy q⟩) q
      have es : seeT m own key ad T = (T ++ [(key, ad, false)], false) := by
        unfold seeT
        rw [if_neg hno, fnd_none hnk]
        show (if _ < m then _ else _) = _
        rw [if_pos hcnt]
      obtain ⟨M', ow', P', Cn', sp', w1, w2, w3, wA, w4⟩ := hadd M ow T P Cn a len sp h hk hkx hkey.symm hlt (fun _ hy => hy) hnk (Nat.le_refl _)
      rw [es, gfr_e (by rw [bk.1]), bk.2.2.1, Option.bind_some, ck_e bk.2.2.2.2.1, f2, Option.bind_some, gfr_e (by rw [bk.1]), bk.2.1, Option.bind_some, ck_e bk.2.2.2.1.1, c_isFull rowF, Option.bind_some, w32_b2i, if_pos (by rw [b2i_0]; simpa using cf), if_pos rfl, w1]
      refine ⟨M', ow', P', Cn', a, len, sp', _, rfl, w2, ?_, ⟨by omega, w3.2.elim (fun w => Or.inl (by show sp'.length + (T ++ [(key, ad, false)]).length ≤ _; rw [List.length_append, List.length_singleton]; omega)) Or.inr⟩, by rw [show (T ++ [(key, ad, false)], false).1.length = T.length + 1 by simp]; exact wA, w4⟩
      rw [if_neg (by simp)]
end CSEE
