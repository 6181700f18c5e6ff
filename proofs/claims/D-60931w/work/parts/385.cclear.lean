section CCLEAR
variable {M M1 M2 : MM} {ow ow1 ow2 : Nat → Nat × Nat} {t ko m n bA i j c k kx a a1 len : Nat} {own : Ky} {T T' : List Row} {pf : Nat → Bool} {B : Nat → Nat} {P P' : Nat → Bool → List Nat} {Cn Cn' : Nat → Bool → List (Ky × Int)} {fl : Nat → Int} {sp : List Nat} {b b2 : Bool} {ad : Int} {x : Row} {i2 : Nat}
theorem up2_up2 {α : Type} {P : Nat → Bool → α} {v w : α} : up2 (up2 P i b v) i b w = up2 P i b w := by
  funext i' b'
  unfold up2
  split <;> rfl
theorem up2_self {α : Type} {P : Nat → Bool → α} : up2 P i b (P i b) = P := by
  funext i' b'
  unfold up2
  split
  · next h => rw [h.1, h.2]
  · rfl
theorem c_empty (hi : i < bA) : ∀ (L : Nat) (M : MM) (ow : Nat → Nat × Nat) (P : Nat → Bool → List Nat) (Cn : Nat → Bool → List (Ky × Int)) (a len : Nat) (sp : List Nat) (fu : Nat), L = (P i b).length → L < fu → sp.length + L ≤ 40000 → TPool M ow t ko m own n bA B P Cn fl a len sp →
    ∃ (M' : MM) (ow' : Nat → Nat × Nat) (a' len' : Nat) (sp' : List Nat), lpN (fun s : MM => b_X20_empty_0 (t : Int) ((rwA B i b : Nat) : Int) s) fu M = some M' ∧ TPool M' ow' t ko m own n bA B (up2 P i b []) (up2 Cn i b []) fl a' len' sp' ∧ sp'.length = sp.length + L ∧ (∀ K, Ac M M' K K bA bA len len' m) ∧ StF M ow B bA t a M' ow' a' := by
  intro L
  induction L with
  | zero =>
    intro M ow P Cn a len sp fu hL hfu hsp h
    obtain ⟨f, rfl⟩ : ∃ f, fu = f + 1 := ⟨fu - 1, by omega⟩
    obtain ⟨r1, r2, r3, r4, r5⟩ := h.row (b := b) hi
    have e1 : P i b = [] := List.length_eq_zero_iff.mp hL.symm
    have e2 : Cn i b = [] := List.length_eq_zero_iff.mp (by rw [← r4]; exact hL.symm)
    have u1 : up2 P i b [] = P := by rw [← e1]; exact up2_self
    have u2 : up2 Cn i b [] = Cn := by rw [← e2]; exact up2_self
    refine ⟨M, ow, a, len, sp, ?_, by rw [u1, u2]; exact h, rfl, fun K => Ac.same rfl rfl rfl, StF.refl⟩
    refine lpN_xit (b := fun s : MM => b_X20_empty_0 (t : Int) ((rwA B i b : Nat) : Int) s) ?_
    unfold b_X20_empty_0
    rw [gfi_e r1.1.1, Option.bind_some, r1.2.1, ← hL, if_neg (by decide)]
  | succ L ih =>
    intro M ow P Cn a len sp fu hL hfu hsp h
    obtain ⟨f, rfl⟩ : ∃ f, fu = f + 1 := ⟨fu - 1, by omega⟩
    obtain ⟨r1, r2, r3, r4, r5⟩ := h.row (b := b) hi
    obtain ⟨hu, hS, hO, hko, hB, hP, hCn, hF, hL', hN, hW, ht⟩ := id h
    have hl20 := r1.2.2.1
    have hm20 := r1.2.2.2.1
    obtain ⟨c, M1, M2, a2, len2, q1, q2, q3, q4, q5, q6, q7⟩ := op_del (k := L) (b := b) h hi (by omega) (by omega)
    have step : b_X20_empty_0 (t : Int) ((rwA B i b : Nat) : Int) M = some (.inl M2) := by
      unfold b_X20_empty_0
      rw [gfi_e r1.1.1, Option.bind_some, r1.2.1, ← hL, w32_nn (by omega), if_pos (by omega), gfr_e hS.1, hS.2.2.2.2.1, Option.bind_some, Option.bind_some, ck_e r1.1.1, show ((L + 1 : Nat) : Int) - 1 = (L : Int) by omega, q1, Option.bind_some]
      dsimp only
      rw [ck_e q2, show f_X9_give ((28 : Nat) : Int) (c : Int) M1 = _ from q3, Option.bind_some]
      rfl
    rw [lpN_cnt (b := fun s : MM => b_X20_empty_0 (t : Int) ((rwA B i b : Nat) : Int) s) step]
    obtain ⟨M', ow', a', len', sp', w1, w2, w3, w4, w5⟩ := ih M2 _ _ _ a2 len2 (sp ++ [c]) f (by rw [up2_eq, List.length_eraseIdx_of_lt (by omega)]; omega) (by omega) (by rw [List.length_append, List.length_singleton]; omega) q4
    rw [up2_up2, up2_up2] at w2
    have st1 : StF M ow B bA t a M2 (fup ow c (28, 28)) a2 := stf_del hi (by
      have := r3 c (by rw [q5]; exact getD_mem (by omega))
      rw [this]) (by rcases q6 with w | w; exact Or.inl w.1; exact Or.inr w.2.1) q7
    refine ⟨M', ow', a', len', sp', w1, w2, by rw [w3, List.length_append, List.length_singleton]; omega, fun K => ?_, st1.trans w5 (fun _ _ => rfl) (fun i q1 q2 => by omega)⟩
    exact (Ac.give (K := K) (K' := K) rfl q6 hL'.2.2.2.2.2.1.1).trans (w4 K)
/-- how many contacts there are in the first buckets -/
def cntC (Cn : Nat → Bool → List (Ky × Int)) : Nat → Nat
  | 0 => 0
  | k + 1 => cntC Cn k + (Cn k false).length + (Cn k true).length
def clrF {α : Type} (P : Nat → Bool → List α) (k : Nat) : Nat → Bool → List α := fun i b => if i < k then [] else P i b
theorem clrF_succ {α : Type} {P : Nat → Bool → List α} {k : Nat} : up2 (up2 (clrF P k) k false []) k true [] = clrF P (k + 1) := by
  funext i b
  unfold up2 clrF
  cases b <;> by_cases c1 : i = k <;> by_cases c2 : i < k <;> simp [c1, c2] <;> omega
theorem c_clearL : ∀ (d k : Nat) (M : MM) (ow : Nat → Nat × Nat) (a len : Nat) (sp : List Nat) (fu : Nat), d + k = n → d < fu → n ≤ bA → sp.length + (cntC Cn n - cntC Cn k) ≤ 40000 → cntC Cn k ≤ cntC Cn n → TPool M ow t ko m own n bA B (clrF P k) (clrF Cn k) fl a len sp →
    ∃ (M' : MM) (ow' : Nat → Nat × Nat) (a' len' : Nat) (sp' : List Nat), lpN (fun s : Int × MM => b_X20_clear_2 (t : Int) s.1 s.2) fu ((k : Int), M) = j_X20_clear_42 (t : Int) M' ∧ TPool M' ow' t ko m own n bA B (clrF P n) (clrF Cn n) fl a' len' sp' ∧ sp'.length = sp.length + (cntC Cn n - cntC Cn k) ∧ (∀ K, Ac M M' K K bA bA len len' m) ∧ StF M ow B bA t a M' ow' a' := by
  intro d
  induction d with
  | zero =>
    intro k M ow a len sp fu hd hfu hn hsp hle h
    obtain ⟨f, rfl⟩ : ∃ f, fu = f + 1 := ⟨fu - 1, by omega⟩
    have e : k = n := by omega
    subst e
    refine ⟨M, ow, a, len, sp, ?_, h, by omega, fun K => Ac.same rfl rfl rfl, StF.refl⟩
    refine lpN_xit (b := fun s : Int × MM => b_X20_clear_2 (t : Int) s.1 s.2) ?_
    dsimp only
    have hS := h.2.1
    unfold b_X20_clear_2
    rw [gfi_e hS.1, Option.bind_some, hS.2.2.2.2.2.2.2.1, if_neg (by omega)]
  | succ d ih =>
    intro k M ow a len sp fu hd hfu hn hsp hle h
    obtain ⟨f, rfl⟩ : ∃ f, fu = f + 1 := ⟨fu - 1, by omega⟩
    obtain ⟨hu, hS, hO, hko, hB, hP, hCn, hF, hL', hN, hW, ht⟩ := id h
    have hb := hB.1
    have kb : k < bA := by omega
    have bk := (hB.2.1 k kb).2.1
    have l1 : (clrF P k k false).length = (Cn k false).length := by
      rw [(h.row (b := false) kb).2.2.2.1]
      unfold clrF
      rw [if_neg (by omega)]
    have l2' : (clrF P k k true).length = (Cn k true).length := by
      rw [(h.row (b := true) kb).2.2.2.1]
      unfold clrF
      rw [if_neg (by omega)]
    have hcs : cntC Cn (k + 1) = cntC Cn k + (Cn k false).length + (Cn k true).length := rfl
    have hmono : ∀ z, cntC Cn (k + 1) ≤ cntC Cn (k + 1 + z) := by
      intro z
      induction z with
      | zero => exact Nat.le_refl _
      | succ z ihz =>
        have : cntC Cn (k + 1 + (z + 1)) = cntC Cn (k + 1 + z) + (Cn (k + 1 + z) false).length + (Cn (k + 1 + z) true).length := rfl
        omega
    have hle2 : cntC Cn (k + 1) ≤ cntC Cn n := by
      have := hmono (n - (k + 1))
      rw [show k + 1 + (n - (k + 1)) = n by omega] at this
      exact this
    obtain ⟨M1, ow1, a1, len1, sp1, w1, w2, w3, w4, w5⟩ := c_empty (b := false) kb (Cn k false).length M ow _ _ a len sp FU l1.symm (by have := (h.row (b := false) kb).1.2.2.1; have := (h.row (b := false) kb).1.2.2.2.1; unfold FU; omega) (by omega) h
    obtain ⟨M2, ow2, a2, len2, sp2, x1, x2, x3, x4, x5⟩ := c_empty (b := true) kb (Cn k true).length M1 ow1 _ _ a1 len1 sp1 FU (by rw [up2_ne (by simp)]; exact l2'.symm) (by have := (h.row (b := true) kb).1.2.2.1; have := (h.row (b := true) kb).1.2.2.2.1; unfold FU; omega) (by omega) w2
    rw [clrF_succ, clrF_succ] at x2
    have bk1 := (w2.2.2.2.2.1.2.1 k kb)
    have hS1 := w2.2.1
    have step : b_X20_clear_2 (t : Int) ((k : Nat) : Int) M = some (.inl (((k + 1 : Nat) : Int), M2)) := by
      have ef : f_X20_empty (t : Int) ((B k + 1 : Nat) : Int) M = some M1 := w1
      have et : f_X20_empty (t : Int) ((B k + 3 : Nat) : Int) M1 = some M2 := x1
      unfold b_X20_clear_2
      rw [gfi_e hS.1, Option.bind_some, hS.2.2.2.2.2.2.2.1, w32_nn (by omega), w32_nn (by omega), if_pos (by omega), gfr_e hS.1, hS.2.2.2.2.2.1, Option.bind_some, lar_n hS.2.2.2.2.2.2.1 (by decide) (by omega) (by decide), Option.bind_some, (hB.2.1 k kb).1, gfr_e (by rw [bk.1]), bk.2.1, Option.bind_some, ck_e hS.1, ef, Option.bind_some, gfr_e hS1.1, hS1.2.2.2.2.2.1, Option.bind_some, lar_n hS1.2.2.2.2.2.2.1 (by decide) (by omega) (by decide), Option.bind_some, bk1.1, gfr_e (by rw [bk1.2.1.1]), bk1.2.1.2.2.1, Option.bind_some, ck_e hS1.1, et, Option.bind_some, cadd1]
      rfl
    rw [lpN_cnt (b := fun s : Int × MM => b_X20_clear_2 (t : Int) s.1 s.2) (s := (((k : Nat) : Int), M)) step]
    obtain ⟨M', ow', a', len', sp', y1, y2, y3, y4, y5⟩ := ih (k + 1) M2 ow2 a2 len2 sp2 f (by omega) (by omega) hn (by omega) hle2 x2
    exact ⟨M', ow', a', len', sp', y1, y2, by omega, fun K => ((w4 K).trans (x4 K)).trans (y4 K), (w5.trans x5 (fun _ _ => rfl) (fun i q1 q2 => by omega)).trans y5 (fun _ _ => rfl) (fun i q1 q2 => by omega)⟩
theorem clrF_all {α : Type} {P : Nat → Bool → List α} (h : ∀ i b, n ≤ i → i < bA → P i b = []) (hi : i < bA) : clrF P n i b = [] := by
  unfold clrF
  by_cases c : i < n
  · rw [if_pos c]
  · rw [if_neg c]; exact h i b (by omega) hi
theorem cntC_le (n : Nat) (own : Ky) (T : List Row) : ∀ k, cntC (fun i b => (T.filter (inB n own i b)).map kad) k ≤ T.length ∧ cntC (fun i b => (T.filter (inB n own i b)).map kad) k = (T.filter (fun x => decide (bkI n own x < k))).length
  | 0 => ⟨Nat.zero_le _, by
    have : T.filter (fun x => decide (bkI n own x < 0)) = [] := List.filter_eq_nil_iff.mpr (fun x _ => by simp)
    rw [this]; rfl⟩
  | k + 1 => by
    have ih := (cntC_le n own T k).2
    have e : cntC (fun i b => (T.filter (inB n own i b)).map kad) (k + 1) = cntC (fun i b => (T.filter (inB n own i b)).map kad) k + ((T.filter (inB n own k false)).map kad).length + ((T.filter (inB n own k true)).map kad).length := rfl
    have e2 : (T.filter (fun x => decide (bkI n own x < k + 1))).length = (T.filter (fun x => decide (bkI n own x < k))).length + (T.filter (inB n own k false)).length + (T.filter (inB n own k true)).length := by
      clear ih e
      induction T with
      | nil => rfl
      | cons y l ih =>
        have c1 : ∀ (f : Row → Bool), ((y :: l).filter f).length = (l.filter f).length + if f y = true then 1 else 0 := fun f => by
          cases hf : f y
          · rw [List.filter_cons_of_neg (by rw [hf]; decide), if_neg (by decide)]; rfl
          · rw [List.filter_cons_of_pos hf, if_pos rfl]; rfl
        rw [c1, c1, c1, c1, ih]
        have key : (if decide (bkI n own y < k + 1) = true then 1 else 0) = (if decide (bkI n own y < k) = true then 1 else 0) + (if inB n own k false y = true then 1 else 0) + (if inB n own k true y = true then 1 else 0) := by
          unfold inB
          cases hb : y.2.2 <;> by_cases q1 : bkI n own y < k <;> by_cases q2 : bkI n own y = k <;> simp [q1, q2] <;> omega
        omega
    have e3 : cntC (fun i b => (T.filter (inB n own i b)).map kad) (k + 1) = (T.filter (fun x => decide (bkI n own x < k + 1))).length := by
      rw [e, ih, e2, List.length_map, List.length_map]
    exact ⟨by rw [e3]; exact List.length_filter_le _ _, e3⟩
theorem cntC_congr : ∀ k, (∀ i b, i < k → Cn i b = Cn' i b) → cntC Cn k = cntC Cn' k
  | 0, _ => rfl
  | k + 1, h => by
    show cntC Cn k + (Cn k false).length + (Cn k true).length = cntC Cn' k + (Cn' k false).length + (Cn' k true).length
    rw [cntC_congr k (fun i b hi => h i b (by omega)), h k false (by omega), h k true (by omega)]
theorem c_clear (h : TT M ow t ko m own T pf n bA B P Cn fl a len sp) (hsp : sp.length + T.length ≤ 40000) :
    ∃ (M' : MM) (ow' : Nat → Nat × Nat) (P' : Nat → Bool → List Nat) (Cn' : Nat → Bool → List (Ky × Int)) (fl' : Nat → Int) (a' len' : Nat) (sp' : List Nat), f_X20_clear (t : Int) M = some M' ∧ TT M' ow' t ko m own [] (fun _ => false) 1 bA B P' Cn' fl' a' len' sp' ∧ sp'.length = sp.length + T.length ∧ Ac M M' (sp.length + T.length) (sp'.length + 0) bA bA len len' m ∧ StF M ow B bA t a M' ow' a' := by
  obtain ⟨tp, h1, h2, h3, h4, h5, h6⟩ := id h
  have hb := tp.2.2.2.2.1.1
  have hcn : cntC Cn n = T.length := by
    rw [cntC_congr (Cn' := fun i b => (T.filter (inB n own i b)).map kad) n (fun i b hi => h2 i b hi), (cntC_le n own T n).2]
    congr 1
    apply List.filter_eq_self.mpr
    intro x _
    unfold bkI
    exact decide_eq_true (by omega)
  have h0 : clrF P 0 = P := by funext i b; unfold clrF; rw [if_neg (by omega)]
  have h0' : clrF Cn 0 = Cn := by funext i b; unfold clrF; rw [if_neg (by omega)]
  obtain ⟨M1, ow1, a1, len1, sp1, y1, y2, y3, y4, y5⟩ := c_clearL (P := P) (Cn := Cn) n 0 M ow a len sp FU (by omega) (by unfold FU; omega) h1.2 (by show sp.length + (cntC Cn n - 0) ≤ _; omega) (Nat.zero_le _) (by rw [h0, h0']; exact tp)
  have hE : ∀ i b, i < bA → clrF P n i b = [] := fun i b hi => clrF_all (fun i b q1 q2 => by
    have := tp.2.2.2.2.2.2.1 i b q2
    rw [h3 i b q1 q2] at this
    exact List.map_eq_nil_iff.mp this) hi
  obtain ⟨hu, hS, hO, hko, hB, hP, hCn, hF, hL, hN, hW, ht⟩ := id y2
  obtain ⟨g1, g2, g3, g4, g5, g6, g7, g8, g9⟩ := id hS
  -- the count is 0
  let M2 := sI M1 t 4 0
  have x2 : ExC (fun q => q = t) M1 M2 := ExC_sI rfl
  have nt : ∀ z, (kd M1 z).1 ≠ 20 → ¬ z = t := fun z q1 q => q1 (by rw [q]; exact g1)
  have hu2 : UN M2 := hu
  have hS2 : TabS M2 t ko m 0 := ⟨g1, g2, g3, by rw [show rI M2 t 1 = rI M1 t 1 from rI_ne (by omega)]; exact g4, g5, g6, g7, by show rI (sI M1 t 4 0) t 4 = _; rw [rI_eq rfl]; rfl, g9⟩
  have hB2 : BkS M2 ow1 t m bA B := ⟨hB.1, fun j hj => ⟨(hB.2.1 j hj).1, (hB.2.1 j hj).2.1, (hB.2.1 j hj).2.2⟩, hB.2.2.1, hB.2.2.2⟩
  have hP2 : PtS M2 ow1 t m bA B (clrF P n) := fun i b hi => by
    obtain ⟨p1, p2, p3⟩ := hP i b hi
    exact ⟨p1.exc x2 (nt _ (by rw [p1.1.1]; decide)) (nt _ (by rw [p1.1.2.2]; show (486 : Nat) ≠ 20; decide)) (fun c hc => by
      have hcc := p1.2.2.2.2.2 c hc
      exact ⟨nt _ (by rw [hcc.1]; decide), nt _ (by rw [hcc.2.2.1]; decide)⟩), p2, p3⟩
  obtain ⟨M3, ow3, bA3, B3, P3, o1, o2, o3, o4, o5, o6, o7, o8, o9, o10, o11, o12⟩ := c_open hu2 hS2 hB2 hP2 (Nat.zero_le _) (by decide) (fun i b _ q2 => hE i b q2)
  have alt : bA3 = bA ∧ ow3 = ow1 ∧ nN M3 = nN M2 ∧ nU M3 = nU M2 := by
    rcases o11 with w | w
    · exact w
    · omega
  obtain ⟨al1, al2, al3, al4⟩ := alt
  subst al1
  subst al2
  have hB3 : ∀ i, i < bA3 → B3 i = B i := fun i hi => (o7 i hi).1
  have hBk3 : BkS M3 ow3 t m bA3 B := ⟨o4.1, fun j hj => by rw [← hB3 j hj]; exact o4.2.1 j hj, hB.2.2.1, o4.2.2.2⟩
  have hE3 : ∀ i b, i < bA3 → P3 i b = [] := fun i b hi => o8 i b (Nat.zero_le _) hi
  have rwe : ∀ i b, i < bA3 → rwA B3 i b = rwA B i b := fun i b hi => by unfold rwA; rw [hB3 i hi]
  have f13 : ExA (A3 B bA3 t) M1 M3 := by
    refine ((ExC.exa x2).mono (fun q hq => Or.inl hq)).trans (o12.mono (fun q hq => ?_))
    rcases hq with e | e | e
    · exact Or.inl e
    · exact Or.inr (Or.inl e)
    · exact Or.inr (Or.inr ⟨0, e.1, by omega, by omega⟩)
  have nA : ∀ z, (kd M1 z).1 ≠ 20 → (kd M1 z).1 ≠ 588 → (kd M1 z).1 ≠ 21 → (kd M1 z).1 ≠ 22 → (kd M1 z).1 ≠ 486 → ¬ A3 B bA3 t z := fun z q1 q2 q3 q4 q5 q => by have := A3_kind hS hB q; omega
  have hL3 : PoolC M3 a1 len1 sp1 := by
    refine hL.exa f13 hu (nA 28 (by rw [hL.1]; decide) (by rw [hL.1]; decide) (by rw [hL.1]; decide) (by rw [hL.1]; decide) (by rw [hL.1]; decide)) ?_ (fun c hc => ?_)
    · rcases hL.2.2.1 with z | z <;> exact nA a1 (by rw [z]; simp) (by rw [z]; simp) (by rw [z]; simp) (by rw [z]; simp) (by rw [z]; simp)
    · have hcc := hL.2.2.2.2.2.2.2 c hc
      exact ⟨nA c (by rw [hcc.1]; decide) (by rw [hcc.1]; decide) (by rw [hcc.1]; decide) (by rw [hcc.1]; decide) (by rw [hcc.1]; decide), nA _ (by rw [hcc.2.2.1]; decide) (by rw [hcc.2.2.1]; decide) (by rw [hcc.2.2.1]; decide) (by rw [hcc.2.2.1]; decide) (by rw [hcc.2.2.1]; decide)⟩
  have lko := isK_lt hu g3
  have kk2 : kC M2 ko = kC M1 ko := by
    funext z
    show rI (sI M1 t 4 0) (ko + 1) z = _
    exact rI_ne (fun q => nt (ko + 1) (by rw [g3.2.2]; decide) q.1)
  refine ⟨M3, ow3, P3, fun _ _ => [], fun i => rI M3 (B i) 2, a1, len1, sp1, ?_, ⟨⟨f13.2.1 hu, o2, by rw [o3, kk2]; exact hO, by rw [f13.kd (by omega)]; exact hko, hBk3, fun i b hi => by rw [← rwe i b hi]; exact o5 i b hi, fun i b hi => by rw [hE3 i b hi]; rfl, fun i _ => rfl, hL3, hN, hW, ht⟩, ⟨Nat.le_refl _, by omega⟩, fun i b _ => rfl, fun i b _ _ => rfl, fun i hi => ?_, ⟨by simp, by simp, fun x hx => by simp at hx⟩, fun _ => ⟨fun x hx => by simp at hx, fun c _ => rfl⟩⟩, by rw [y3, hcn]; rfl, ?_, ?_⟩
  · unfold f_X20_clear l_X20_clear_2
    refine Eq.trans y1 ?_
    unfold j_X20_clear_42
    rw [pfi_e g1, Option.bind_some, ck_e hS2.1, show f_X20_open (t : Int) (sI M1 t 4 0) = _ from o1, Option.bind_some]
  · have : i = 0 := by omega
    subst this
    show rI M3 (B 0) 2 = _
    rw [← hB3 0 (by omega)]; exact o9
  · have hK : sp.length + T.length = sp1.length + 0 := by rw [y3, hcn]; rfl
    rw [← hK]
    exact (y4 _).trans (Ac.same (by rw [al3]; rfl) (by rw [al4]; rfl) rfl)
  · refine y5.trans ⟨f13.mono (fun q hq => Or.inl hq), OwG.refl, Or.inl rfl⟩ (fun _ _ => rfl) (fun i q1 q2 => by omega)
end CCLEAR
