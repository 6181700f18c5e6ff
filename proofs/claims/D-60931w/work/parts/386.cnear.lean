/-! the nearest contacts -/
theorem filt_or {α : Type} {p q : α → Bool} : ∀ (l : List α), (∀ x, x ∈ l → ¬ (p x = true ∧ q x = true)) → (l.filter p ++ l.filter q).Perm (l.filter (fun x => p x || q x))
  | [], _ => List.Perm.refl _
  | y :: l, h => by
    have ih := filt_or l (fun x hx => h x (List.mem_cons_of_mem _ hx))
    have hy := h y List.mem_cons_self
    cases hp : p y <;> cases hq : q y
    · rw [List.filter_cons_of_neg (by rw [hp]; decide), List.filter_cons_of_neg (by rw [hq]; decide), List.filter_cons_of_neg (by rw [hp, hq]; decide)]; exact ih
    · rw [List.filter_cons_of_neg (by rw [hp]; decide), List.filter_cons_of_pos hq, List.filter_cons_of_pos (by rw [hp, hq]; rfl)]
      exact List.perm_middle.trans (ih.cons y)
    · rw [List.filter_cons_of_pos hp, List.filter_cons_of_neg (by rw [hq]; decide), List.filter_cons_of_pos (by rw [hp]; rfl)]
      exact ih.cons y
    · exact absurd ⟨hp, hq⟩ hy
/-- all rows by their buckets -/
theorem buckets_perm {n : Nat} {own : Ky} {T : List Row} {b : Bool} : ∀ k, ((List.range k).flatMap (fun i => T.filter (inB n own i b))).Perm (T.filter (fun x => decide (bkI n own x < k) && (x.2.2 == b)))
  | 0 => by
    have : T.filter (fun x => decide (bkI n own x < 0) && (x.2.2 == b)) = [] := List.filter_eq_nil_iff.mpr (fun x _ => by simp)
    rw [this]; exact List.Perm.refl _
  | k + 1 => by
    rw [List.range_succ, List.flatMap_append]
    have ih := buckets_perm (n := n) (own := own) (T := T) (b := b) k
    have e : ([k] : List Nat).flatMap (fun i => T.filter (inB n own i b)) = T.filter (inB n own k b) := by simp
    rw [e]
    refine (ih.append_right _).trans ((filt_or T (fun x _ q => ?_)).trans (List.Perm.of_eq (List.filter_congr (fun x _ => ?_))))
    · have h1 := q.1
      have h2 := inB_iff.mp q.2
      simp only [Bool.and_eq_true, decide_eq_true_eq] at h1
      omega
    · unfold inB
      cases hb : (x.2.2 == b) <;> by_cases q1 : bkI n own x < k <;> by_cases q2 : bkI n own x = k <;> simp [q1, q2] <;> omega
section CNEAR
variable {M : MM} {t ko m n bA i j c k kx wx be kb : Nat} {own : Ky} {T : List Row}
def BstC (M : MM) (be kb m : Nat) (Q : List Nat) : Prop := kd M be = (kb, m) ∧ (64 ≤ kb ∧ kb % 16 = 6) ∧ Q.length ≤ m ∧ (∀ z, z < Q.length → rR M be z = ((Q.getD z 0 : Nat) : Int)) ∧ ∀ c, c ∈ Q → isCt M c
theorem bst_ne (h : kd M be = (kb, m)) (hk : 64 ≤ kb ∧ kb % 16 = 6) (hc : isCt M c) : c ≠ be ∧ c + 1 ≠ be ∧ c + 2 ≠ be := by
  have k2 : kd M (c + 2) = (64, 5) := hc.2.2.2.2.2
  refine ⟨fun q => ?_, fun q => ?_, fun q => ?_⟩
  · rw [← q, hc.1] at h; cases h; omega
  · rw [← q, hc.2.2.1] at h; cases h; omega
  · rw [← q, k2] at h; cases h; omega
/-- one is put to its place -/
theorem c_nearI {x2 x5 x6 x7 : Int} {U : MM} {Q : List Nat} {X : Nat} (hQ : BstC U be kb m Q) (hX : isCt U X) (hm : 1 ≤ m ∧ m ≤ 20) (hmt : (kd U t).1 = 20 ∧ rI U t 1 = (m : Int)) (hkx : isK U kx) (hbt : be ≠ t) (hs : SrtM (fun c => kdi (ctc U c).1 (ky (kC U kx))) Q) :
    ∃ U', j_X20_nearest_69 (t : Int) (kx : Int) x2 (be : Int) ((Q.length : Nat) : Int) x5 x6 x7 ((X : Nat) : Int) U = j_X20_nearest_172 (t : Int) (kx : Int) x2 (be : Int) ((((insM (fun c => kdi (ctc U c).1 (ky (kC U kx))) X Q).take m).length : Nat) : Int) x5 x6 x7 U' ∧ BstC U' be kb m ((insM (fun c => kdi (ctc U c).1 (ky (kC U kx))) X Q).take m) ∧ ExC (fun q => q = be) U U' := by
  obtain ⟨q1, q2, q3, q4, q5⟩ := id hQ
  let μ : Nat → Nat := fun c => kdi (ctc U c).1 (ky (kC U kx))
  -- the place
  have place : ∀ p fu, p ≤ Q.length → p < fu → lpN (fun s : Int => b_X20_nearest_73 (t : Int) (kx : Int) x2 (be : Int) ((Q.length : Nat) : Int) x5 x6 x7 ((X : Nat) : Int) s U) fu ((p : Nat) : Int) = j_X20_nearest_105 (t : Int) (kx : Int) x2 (be : Int) ((Q.length : Nat) : Int) x5 x6 x7 ((X : Nat) : Int) ((bk (fun y => decide (μ X < μ y)) 0 Q p : Nat) : Int) U := by
    intro p
    induction p with
    | zero =>
      intro fu _ hf
      obtain ⟨f, rfl⟩ : ∃ f, fu = f + 1 := ⟨fu - 1, by omega⟩
      refine lpN_xit (b := fun s : Int => b_X20_nearest_73 (t : Int) (kx : Int) x2 (be : Int) ((Q.length : Nat) : Int) x5 x6 x7 ((X : Nat) : Int) s U) ?_
      show b_X20_nearest_73 (t : Int) (kx : Int) x2 (be : Int) ((Q.length : Nat) : Int) x5 x6 x7 ((X : Nat) : Int) ((0 : Nat) : Int) U = _
      unfold b_X20_nearest_73
      rw [if_neg (by decide)]
      rfl
    | succ p ih =>
      intro fu hp hf
      obtain ⟨f, rfl⟩ : ∃ f, fu = f + 1 := ⟨fu - 1, by omega⟩
      have hc := q5 _ (getD_mem (d := 0) (show p < Q.length by omega))
      have hr := q4 p (by omega)
      have step : b_X20_nearest_73 (t : Int) (kx : Int) x2 (be : Int) ((Q.length : Nat) : Int) x5 x6 x7 ((X : Nat) : Int) ((p + 1 : Nat) : Int) U = if μ X < μ (Q.getD p 0) then cnt ((p : Nat) : Int) else xit (j_X20_nearest_105 (t : Int) (kx : Int) x2 (be : Int) ((Q.length : Nat) : Int) x5 x6 x7 ((X : Nat) : Int) ((p + 1 : Nat) : Int) U) := by
        generalize Q.getD p 0 = Y at hc hr
        have nr : f_X3_isNearer ((X + 1 : Nat) : Int) ((Y + 1 : Nat) : Int) (kx : Int) U = some (if μ X < μ Y then 1 else 0) := e_X3_isNearer hX.2.2.2 hc.2.2.2 hkx
        unfold b_X20_nearest_73
        rw [w32_nn (by omega), if_pos (by omega), gfr_e (by rw [hX.1]), hX.2.1, Option.bind_some, show ((p + 1 : Nat) : Int) - 1 = ((p : Nat) : Int) by omega, lar_n q1 q2 (by omega) (by omega), Option.bind_some, hr, gfr_e (by rw [hc.1]), hc.2.1, Option.bind_some, ck_e hX.2.2.2.1, nr, Option.bind_some]
        by_cases c0 : μ X < μ Y
        · rw [if_pos c0, if_pos c0, w32_1, if_neg (by decide), show ((p + 1 : Nat) : Int) + (-1) = ((p : Nat) : Int) by omega]
        · rw [if_neg c0, if_neg c0, w32_0, if_pos rfl]
      unfold bk
      by_cases c0 : μ X < μ (Q.getD p 0)
      · rw [if_pos c0] at step
        rw [if_pos (by simpa using c0), lpN_cnt (b := fun s : Int => b_X20_nearest_73 (t : Int) (kx : Int) x2 (be : Int) ((Q.length : Nat) : Int) x5 x6 x7 ((X : Nat) : Int) s U) (s := ((p + 1 : Nat) : Int)) step]
        exact ih f (by omega) (by omega)
      · rw [if_neg c0] at step
        rw [if_neg (by simpa using c0)]
        exact lpN_xit (b := fun s : Int => b_X20_nearest_73 (t : Int) (kx : Int) x2 (be : Int) ((Q.length : Nat) : Int) x5 x6 x7 ((X : Nat) : Int) s U) (s := ((p + 1 : Nat) : Int)) step
  have hpl := place Q.length FU (Nat.le_refl _) (by unfold FU; omega)
  have hble := bk_le (fun y => decide (μ X < μ y)) 0 Q Q.length
  have hins := bk_ins (d := 0) (x := X) hs
  generalize hp : bk (fun y => decide (μ X < μ y)) 0 Q Q.length = p at hpl hble hins
  unfold j_X20_nearest_69 l_X20_nearest_73
  rw [show lpN (fun s : Int => b_X20_nearest_73 (t : Int) (kx : Int) x2 (be : Int) ((Q.length : Nat) : Int) x5 x6 x7 ((X : Nat) : Int) s U) FU ((Q.length : Nat) : Int) = _ from hpl]
  rw [← hins]
  unfold j_X20_nearest_105
  rw [gfi_e hmt.1, Option.bind_some, Option.bind_some, hmt.2, w32_nn (by omega), w32_nn (by omega), w32_nn (by omega)]
  have lenI : (Q.take p ++ X :: Q.drop p).length = Q.length + 1 := by
    rw [List.length_append, List.length_cons, List.length_take, List.length_drop]; omega
  by_cases c0 : p = m
  · have hQm : Q.length = m := by omega
    have e : (Q.take p ++ X :: Q.drop p).take m = Q := by
      rw [c0, List.take_append_of_le_length (by rw [List.length_take]; omega), List.take_take, Nat.min_self, List.take_of_length_le (by omega)]
    rw [if_pos (by omega), e]
    exact ⟨U, rfl, hQ, ExC.refl⟩
  · rw [if_neg (by omega)]
    obtain ⟨N, hN⟩ : ∃ N, N = min (Q.length + 1) m := ⟨_, rfl⟩
    have lenT : ((Q.take p ++ X :: Q.drop p).take m).length = N := by rw [List.length_take, lenI]; omega
    rw [lenT]
    -- the shift
    have shift : ∀ d fu W, p + d ≤ N - 1 → d < fu → ExC (fun q => q = be) U W → (∀ z, z ≤ p + d → z < Q.length → rR W be z = ((Q.getD z 0 : Nat) : Int)) → (∀ z, p + d < z → z < N → rR W be z = ((Q.getD (z - 1) 0 : Nat) : Int)) → ∃ W', lpN (fun s : Int × MM => b_X20_nearest_143 (t : Int) (kx : Int) x2 (be : Int) ((N : Nat) : Int) x5 x6 x7 ((X : Nat) : Int) ((p : Nat) : Int) s.1 s.2) fu (((p + d : Nat) : Int), W) = j_X20_nearest_166 (t : Int) (kx : Int) x2 (be : Int) ((N : Nat) : Int) x5 x6 x7 ((X : Nat) : Int) ((p : Nat) : Int) W' ∧ ExC (fun q => q = be) U W' ∧ (∀ z, z < p → rR W' be z = ((Q.getD z 0 : Nat) : Int)) ∧ ∀ z, p < z → z < N → rR W' be z = ((Q.getD (z - 1) 0 : Nat) : Int) := by
      intro d
      induction d with
      | zero =>
        intro fu W hd hf hx h1 h2
        obtain ⟨f, rfl⟩ : ∃ f, fu = f + 1 := ⟨fu - 1, by omega⟩
        refine ⟨W, ?_, hx, fun z hz => h1 z (by omega) (by omega), fun z a b => h2 z (by omega) b⟩
        refine lpN_xit (b := fun s : Int × MM => b_X20_nearest_143 (t : Int) (kx : Int) x2 (be : Int) ((N : Nat) : Int) x5 x6 x7 ((X : Nat) : Int) ((p : Nat) : Int) s.1 s.2) ?_
        dsimp only
        unfold b_X20_nearest_143
        rw [show p + 0 = p from rfl, if_neg (Int.lt_irrefl _)]
      | succ d ih =>
        intro fu W hd hf hx h1 h2
        obtain ⟨f, rfl⟩ : ∃ f, fu = f + 1 := ⟨fu - 1, by omega⟩
        have hkW : kd W be = (kb, m) := by rw [hx.kd]; exact q1
        have hY := q5 _ (getD_mem (d := 0) (show p + d < Q.length by omega))
        have hr := h1 (p + d) (by omega) (by omega)
        generalize hYe : Q.getD (p + d) 0 = Y at hY hr
        have step : b_X20_nearest_143 (t : Int) (kx : Int) x2 (be : Int) ((N : Nat) : Int) x5 x6 x7 ((X : Nat) : Int) ((p : Nat) : Int) ((p + (d + 1) : Nat) : Int) W = some (.inl (((p + d : Nat) : Int), sR W be (p + (d + 1)) (Y : Int))) := by
          unfold b_X20_nearest_143
          rw [w32_nn (by omega), w32_nn (by omega), if_pos (by omega), show ((p + (d + 1) : Nat) : Int) - 1 = ((p + d : Nat) : Int) by omega, lar_n hkW q2 (by omega) (by omega), Option.bind_some, hr, sar_n hkW q2 (by omega) (by omega) (by rw [hx.kd, hY.1]; rfl), Option.bind_some, show ((p + (d + 1) : Nat) : Int) + (-1) = ((p + d : Nat) : Int) by omega]
          rfl
        rw [lpN_cnt (b := fun s : Int × MM => b_X20_nearest_143 (t : Int) (kx : Int) x2 (be : Int) ((N : Nat) : Int) x5 x6 x7 ((X : Nat) : Int) ((p : Nat) : Int) s.1 s.2) (s := (((p + (d + 1) : Nat) : Int), W)) step]
        refine ih f (sR W be (p + (d + 1)) (Y : Int)) (by omega) (by omega) (hx.trans (ExC_sR rfl)) (fun z a b => ?_) (fun z a b => ?_)
        · rw [rR_ne (by omega)]; exact h1 z (by omega) b
        · by_cases e : z = p + (d + 1)
          · rw [rR_eq e, e, show p + (d + 1) - 1 = p + d by omega, hYe]
          · rw [rR_ne (by omega)]; exact h2 z (by omega) b
    obtain ⟨W', s1, s2', s3, s4⟩ := shift (N - 1 - p) FU U (by omega) (by unfold FU; omega) ExC.refl (fun z _ b => q4 z b) (fun z a b => by omega)
    have hkW : kd W' be = (kb, m) := by rw [s2'.kd]; exact q1
    have fr : ExC (fun q => q = be) U (sR W' be p (X : Int)) := s2'.trans (ExC_sR rfl)
    refine ⟨sR W' be p (X : Int), ?_, ⟨hkW, q2, by rw [lenT]; omega, fun z hz => ?_, fun c hc => ?_⟩, fr⟩
    · have run : j_X20_nearest_135 (t : Int) (kx : Int) x2 (be : Int) x5 x6 x7 ((X : Nat) : Int) ((p : Nat) : Int) ((N : Nat) : Int) U = j_X20_nearest_172 (t : Int) (kx : Int) x2 (be : Int) ((N : Nat) : Int) x5 x6 x7 (sR W' be p (X : Int)) := by
        unfold j_X20_nearest_135 l_X20_nearest_143
        rw [show ((N : Nat) : Int) - 1 = ((p + (N - 1 - p) : Nat) : Int) by omega]
        refine s1.trans ?_
        unfold j_X20_nearest_166
        rw [sar_n hkW q2 (by omega) (by omega) (by rw [s2'.kd, hX.1]; rfl), Option.bind_some]
      by_cases c1 : Q.length < m
      · rw [if_pos (by omega), show ((Q.length : Nat) : Int) + 1 = ((N : Nat) : Int) by omega]; exact run
      · rw [if_neg (by omega), show ((Q.length : Nat) : Int) = ((N : Nat) : Int) by omega]; exact run
    · rw [lenT] at hz
      have eg : ((Q.take p ++ X :: Q.drop p).take m).getD z 0 = (Q.take p ++ X :: Q.drop p).getD z 0 := by
        rw [List.getD_eq_getElem?_getD, List.getD_eq_getElem?_getD, List.getElem?_take_of_lt (by omega)]
      rw [eg, getD_ins hble]
      by_cases e : z = p
      · rw [rR_eq e, if_neg (by omega), if_pos e]
      · rw [rR_ne (by omega)]
        by_cases e2 : z < p
        · rw [if_pos e2]; exact s3 z e2
        · rw [if_neg e2, if_neg e]; exact s4 z (by omega) hz
    · have hc2 := List.mem_of_mem_take hc
      have hcc : isCt U c := by
        rcases List.mem_append.mp hc2 with w | w
        · exact q5 c (List.mem_of_mem_take w)
        · rcases List.mem_cons.mp w with w | w
          · rw [w]; exact hX
          · exact q5 c (List.mem_of_mem_drop w)
      have nn' := bst_ne q1 q2 hcc
      exact hcc.exc fr (by omega) (by omega)
variable {ow : Nat → Nat × Nat} {pf : Nat → Bool} {B : Nat → Nat} {P : Nat → Bool → List Nat} {Cn : Nat → Bool → List (Ky × Int)} {fl : Nat → Int} {a len : Nat} {sp : List Nat} {wo : Option Ky} {x2 : Int}
/-- which contacts are told -/
def okC (M : MM) (wo : Option Ky) (c : Nat) : Bool := !decide (wo = some (ctc M c).1)
/-- the contacts of a row, one behind the other -/
theorem c_nearRow {x5 : Int} {r : Nat} {L : List Nat} (hm : 1 ≤ m ∧ m ≤ 20) (hmt : (kd M t).1 = 20 ∧ rI M t 1 = (m : Int)) (hr : RowC M r m L) (hkx : isK M kx) (hw : (x2 = -1 ∧ wo = none) ∨ ∃ w : Nat, x2 = (w : Int) ∧ isK M w ∧ wo = some (ky (kC M w))) (hbt : be ≠ t) (hbr : be ≠ r ∧ be ≠ r + 1) (hkb : kd M be = (kb, m) ∧ 64 ≤ kb ∧ kb % 16 = 6) (hbk : ∀ z, isK M z → z ≠ be ∧ z + 1 ≠ be) :
    ∀ (d k : Nat) (U : MM) (Q : List Nat) (fu : Nat), d + k = L.length → d < fu → ExC (fun q => q = be) M U → BstC U be kb m Q → (∀ l', (Q ++ L.drop k ++ l').length ≥ 0) → SrtM (fun c => kdi (ctc M c).1 (ky (kC M kx))) Q → (∀ c, c ∈ L.drop k → ∀ c', c' ∈ Q → kdi (ctc M c').1 (ky (kC M kx)) ≠ kdi (ctc M c).1 (ky (kC M kx))) → ((L.drop k).map (fun c => kdi (ctc M c).1 (ky (kC M kx)))).Nodup →
    ∃ U', lpN (fun s : Int × Int × MM => b_X20_nearest_30 (t : Int) (kx : Int) x2 (be : Int) s.1 x5 (r : Int) s.2.1 s.2.2) fu (((Q.length : Nat) : Int), (k : Int), U) = j_X20_nearest_178 (t : Int) (kx : Int) x2 (be : Int) (((((L.drop k).filter (okC M wo)).foldl (fun acc x => (insM (fun c => kdi (ctc M c).1 (ky (kC M kx))) x acc).take m) Q).length : Nat) : Int) x5 U' ∧ BstC U' be kb m (((L.drop k).filter (okC M wo)).foldl (fun acc x => (insM (fun c => kdi (ctc M c).1 (ky (kC M kx))) x acc).take m) Q) ∧ ExC (fun q => q = be) M U' := by
  obtain ⟨hr1, hr2, hr3, hr4, hr5, hr6⟩ := id hr
  let μ : Nat → Nat := fun c => kdi (ctc M c).1 (ky (kC M kx))
  intro d
  induction d with
  | zero =>
    intro k U Q fu hd hf hx hQ _ hs _ _
    obtain ⟨f, rfl⟩ : ∃ f, fu = f + 1 := ⟨fu - 1, by omega⟩
    have e : k = L.length := by omega
    subst e
    rw [List.drop_length]
    refine ⟨U, ?_, hQ, hx⟩
    refine lpN_xit (b := fun s : Int × Int × MM => b_X20_nearest_30 (t : Int) (kx : Int) x2 (be : Int) s.1 x5 (r : Int) s.2.1 s.2.2) ?_
    dsimp only
    unfold b_X20_nearest_30
    rw [gfi_e (by rw [hx.kd]; exact hr1.1), Option.bind_some, hx.rI (by omega), hr2, if_neg (Int.lt_irrefl _)]
    rfl
  | succ d ih =>
    intro k U Q fu hd hf hx hQ hz hs hap hnd
    obtain ⟨f, rfl⟩ : ∃ f, fu = f + 1 := ⟨fu - 1, by omega⟩
    have hdr : L.drop k = L.getD k 0 :: L.drop (k + 1) := by
      have e : L.getD k 0 = L[k]'(by omega) := by grind
      rw [e, List.drop_eq_getElem_cons (by omega)]
    have hX := hr6 _ (getD_mem (d := 0) (show k < L.length by omega))
    have hrk := hr5 k (by omega)
    generalize hXe : L.getD k 0 = X at hdr hX hrk
    have nX := bst_ne hkb.1 hkb.2 hX
    have hXU : isCt U X := hX.exc hx (by omega) (by omega)
    have ctU : ∀ c, isCt M c → ctc U c = ctc M c := fun c hc => by
      have w := bst_ne hkb.1 hkb.2 hc
      exact ctc.exc hx (by omega) (by omega)
    have kkU : ∀ z, isK M z → isK U z ∧ kC U z = kC M z := fun z hz => ⟨hx.isK (hbk z hz).1 hz, hx.kC (hbk z hz).2⟩
    have rowU : rI U r 1 = (L.length : Int) := by rw [hx.rI (by omega)]; exact hr2
    have hlm := hr3
    have kr1 : kd U (r + 1) = (486, m) := by rw [hx.kd]; exact hr1.2.2
    rw [hdr, List.map_cons, List.nodup_cons] at hnd
    -- one more step
    have go : ∀ (U1 : MM) (Q1 : List Nat), b_X20_nearest_30 (t : Int) (kx : Int) x2 (be : Int) ((Q.length : Nat) : Int) x5 (r : Int) ((k : Nat) : Int) U = some (.inl (((Q1.length : Nat) : Int), ((k + 1 : Nat) : Int), U1)) → ExC (fun q => q = be) M U1 → BstC U1 be kb m Q1 → SrtM μ Q1 → (∀ c', c' ∈ Q1 → c' ∈ Q ∨ c' = X) → ((L.drop k).filter (okC M wo)).foldl (fun acc x => (insM μ x acc).take m) Q = ((L.drop (k + 1)).filter (okC M wo)).foldl (fun acc x => (insM μ x acc).take m) Q1 → ∃ U', lpN (fun s : Int × Int × MM => b_X20_nearest_30 (t : Int) (kx : Int) x2 (be : Int) s.1 x5 (r : Int) s.2.1 s.2.2) (f + 1) (((Q.length : Nat) : Int), (k : Int), U) = j_X20_nearest_178 (t : Int) (kx : Int) x2 (be : Int) (((((L.drop k).filter (okC M wo)).foldl (fun acc x => (insM μ x acc).take m) Q).length : Nat) : Int) x5 U' ∧ BstC U' be kb m (((L.drop k).filter (okC M wo)).foldl (fun acc x => (insM μ x acc).take m) Q) ∧ ExC (fun q => q = be) M U' := by
      intro U1 Q1 hst hx1 hQ1 hs1 hsub hfold
      rw [lpN_cnt (b := fun s : Int × Int × MM => b_X20_nearest_30 (t : Int) (kx : Int) x2 (be : Int) s.1 x5 (r : Int) s.2.1 s.2.2) (s := (((Q.length : Nat) : Int), ((k : Nat) : Int), U)) hst, hfold]
      refine ih (k + 1) U1 Q1 f (by omega) (by omega) hx1 hQ1 (fun _ => Nat.zero_le _) hs1 (fun c hc c' hc' => ?_) hnd.2
      rcases hsub c' hc' with w | w
      · exact hap c (by rw [hdr]; exact List.mem_cons_of_mem _ hc) c' w
      · rw [w]
        exact fun q => hnd.1 (List.mem_map.mpr ⟨c, hc, q.symm⟩)
    have skip : okC M wo X = false → (j_X20_nearest_172 (t : Int) (kx : Int) x2 (be : Int) ((Q.length : Nat) : Int) x5 (r : Int) ((k : Nat) : Int) U = b_X20_nearest_30 (t : Int) (kx : Int) x2 (be : Int) ((Q.length : Nat) : Int) x5 (r : Int) ((k : Nat) : Int) U) → ∃ U', lpN (fun s : Int × Int × MM => b_X20_nearest_30 (t : Int) (kx : Int) x2 (be : Int) s.1 x5 (r : Int) s.2.1 s.2.2) (f + 1) (((Q.length : Nat) : Int), (k : Int), U) = j_X20_nearest_178 (t : Int) (kx : Int) x2 (be : Int) (((((L.drop k).filter (okC M wo)).foldl (fun acc x => (insM μ x acc).take m) Q).length : Nat) : Int) x5 U' ∧ BstC U' be kb m (((L.drop k).filter (okC M wo)).foldl (fun acc x => (insM μ x acc).take m) Q) ∧ ExC (fun q => q = be) M U' := fun ho hb => go U Q (by rw [← hb]; unfold j_X20_nearest_172; rw [cadd1]; rfl) hx hQ hs (fun c' hc' => Or.inl hc') (by rw [hdr, List.filter_cons_of_neg (by rw [ho]; decide)])
    have take : okC M wo X = true → (j_X20_nearest_69 (t : Int) (kx : Int) x2 (be : Int) ((Q.length : Nat) : Int) x5 (r : Int) ((k : Nat) : Int) ((X : Nat) : Int) U = b_X20_nearest_30 (t : Int) (kx : Int) x2 (be : Int) ((Q.length : Nat) : Int) x5 (r : Int) ((k : Nat) : Int) U) → ∃ U', lpN (fun s : Int × Int × MM => b_X20_nearest_30 (t : Int) (kx : Int) x2 (be : Int) s.1 x5 (r : Int) s.2.1 s.2.2) (f + 1) (((Q.length : Nat) : Int), (k : Int), U) = j_X20_nearest_178 (t : Int) (kx : Int) x2 (be : Int) (((((L.drop k).filter (okC M wo)).foldl (fun acc x => (insM μ x acc).take m) Q).length : Nat) : Int) x5 U' ∧ BstC U' be kb m (((L.drop k).filter (okC M wo)).foldl (fun acc x => (insM μ x acc).take m) Q) ∧ ExC (fun q => q = be) M U' := fun ho hb => by
      have eqμ : ∀ c, c ∈ Q ∨ c = X → kdi (ctc U c).1 (ky (kC U kx)) = μ c := fun c hc => by
        have hcM : isCt M c ∨ True := Or.inr trivial
        rw [(kkU kx hkx).2]
        rcases hc with w | w
        · have hcU := hQ.2.2.2.2 c w
          have : isCt M c := by
            have w2 := bst_ne hQ.1 hQ.2.1 hcU
            obtain ⟨z1, z2, z3, z4⟩ := hcU
            exact ⟨by rw [← hx.kd]; exact z1, by rw [← hx.rR (by omega)]; exact z2, by rw [← hx.kd]; exact z3, by rw [← hx.kd]; exact z4.1, by rw [← hx.rR (by omega)]; exact z4.2.1, by rw [← hx.kd]; exact z4.2.2⟩
          rw [ctU c this]
        · rw [w, ctU X hX]
      have hins : insM (fun c => kdi (ctc U c).1 (ky (kC U kx))) X Q = insM μ X Q := insM_congr (eqμ X (Or.inr rfl)) (fun y hy => eqμ y (Or.inl hy))
      have hsU : SrtM (fun c => kdi (ctc U c).1 (ky (kC U kx))) Q := List.Pairwise.imp_of_mem (fun {a b} ha hb hab => by
        show kdi (ctc U a).1 _ < kdi (ctc U b).1 _
        rw [eqμ a (Or.inl ha), eqμ b (Or.inl hb)]; exact hab) hs
      obtain ⟨U1, n1, n2, n3⟩ := c_nearI (x2 := x2) (x5 := x5) (x6 := (r : Int)) (x7 := ((k : Nat) : Int)) hQ hXU hm ⟨by rw [hx.kd]; exact hmt.1, by rw [hx.rI (Ne.symm hbt)]; exact hmt.2⟩ (kkU kx hkx).1 hbt hsU
      rw [hins] at n1 n2
      refine go U1 ((insM μ X Q).take m) (by rw [← hb, n1]; unfold j_X20_nearest_172; rw [cadd1]; rfl) (hx.trans n3) n2 ?_ (fun c' hc' => ?_) (by rw [hdr, List.filter_cons_of_pos ho]; rfl)
      · exact (insM_srt μ X Q hs (fun y hy => hap X (by rw [hdr]; exact List.mem_cons_self) y hy)).sublist (List.take_sublist _ _)
      · rcases insM_mem.mp (List.mem_of_mem_take hc') with w | w
        · exact Or.inr w
        · exact Or.inl w
    have eb : b_X20_nearest_30 (t : Int) (kx : Int) x2 (be : Int) ((Q.length : Nat) : Int) x5 (r : Int) ((k : Nat) : Int) U = if x2 = -1 then j_X20_nearest_69 (t : Int) (kx : Int) x2 (be : Int) ((Q.length : Nat) : Int) x5 (r : Int) ((k : Nat) : Int) ((X : Nat) : Int) U else (f_X3_is ((X + 1 : Nat) : Int) x2 U).bind fun v5 => if w32 v5 = 0 then j_X20_nearest_69 (t : Int) (kx : Int) x2 (be : Int) ((Q.length : Nat) : Int) x5 (r : Int) ((k : Nat) : Int) ((X : Nat) : Int) U else j_X20_nearest_172 (t : Int) (kx : Int) x2 (be : Int) ((Q.length : Nat) : Int) x5 (r : Int) ((k : Nat) : Int) U := by
      unfold b_X20_nearest_30
      rw [gfi_e (by rw [hx.kd]; exact hr1.1), Option.bind_some, rowU, w32_nn (by omega), w32_nn (by omega), if_pos (by omega), gfr_e (by rw [hx.kd]; exact hr1.1), hx.rR (by omega), hr1.2.1, Option.bind_some, lar_n kr1 (by decide) (by omega) (by omega), Option.bind_some, hx.rR (by omega), hrk, gfr_e (by rw [hXU.1]), hXU.2.1, Option.bind_some, ck_e hXU.2.2.2.1]
    rcases hw with ⟨w1, w2⟩ | ⟨w, w1, w2, w3⟩
    · exact take (by unfold okC; rw [w2]; rfl) (by rw [eb, if_pos w1])
    · have his := e_X3_is hXU.2.2.2 (kkU w w2).1
      rw [← w1] at his
      have hq : kcom (kC U (X + 1)) (kC U w) = 160 ↔ wo = some (ctc M X).1 := by
        rw [kcom_160 (kC_ok _ _) (kC_ok _ _), ← ky_eq, w3, (kkU w w2).2]
        have : (ctc M X).1 = ky (kC U (X + 1)) := by rw [← ctU X hX]; rfl
        rw [this]
        constructor
        · intro q; rw [q]
        · intro q; exact (Option.some.inj q).symm
      have hx2 : ¬ x2 = -1 := by rw [w1]; omega
      by_cases cq : wo = some (ctc M X).1
      · exact skip (by unfold okC; rw [decide_eq_true cq]; rfl) (by rw [eb, if_neg hx2, his, Option.bind_some, if_pos (hq.mpr cq), w32_1, if_neg (by decide)])
      · exact take (by unfold okC; rw [decide_eq_false cq]; rfl) (by rw [eb, if_neg hx2, his, Option.bind_some, if_neg (fun z => cq (hq.mp z)), w32_0, if_pos rfl])
/-- all of a table's contacts, bucket by bucket -/
def allP (P : Nat → Bool → List Nat) (k : Nat) : List Nat := (List.range k).flatMap (fun i => P i false)
theorem allP_succ {P : Nat → Bool → List Nat} {k : Nat} : allP P (k + 1) = allP P k ++ P k false := by
  unfold allP
  rw [List.range_succ, List.flatMap_append]
  simp
theorem c_nearest (h : TT M ow t ko m own T pf n bA B P Cn fl a len sp) (hown : kyo own) (hkx : isK M kx) (hw : (x2 = -1 ∧ wo = none) ∨ ∃ w : Nat, x2 = (w : Int) ∧ isK M w ∧ wo = some (ky (kC M w))) (hkb : kd M be = (kb, m) ∧ 64 ≤ kb ∧ kb % 16 = 6 ∧ kb ≠ 486) :
    ∃ (U : MM) (Q : List Nat), f_X20_nearest (t : Int) (kx : Int) x2 (be : Int) M = some (((Q.length : Nat) : Int), U) ∧ BstC U be kb m Q ∧ Q.map (ctc M) = (nearT m (ky (kC M kx)) wo T).map kad ∧ (∀ c, c ∈ Q → isCt M c) ∧ ExC (fun q => q = be) M U := by
  obtain ⟨tp, h1, h2, h3, h4, h5, h6⟩ := id h
  obtain ⟨hu, hS, hO, hko, hB, hP, hCn, hF, hL, hN, hW, ht⟩ := id tp
  have hb := hB.1
  let tgt := ky (kC M kx)
  let μ : Nat → Nat := fun c => kdi (ctc M c).1 tgt
  have hm : 1 ≤ m ∧ m ≤ 20 := hS.2.2.2.2.2.2.2.2
  have hbt : be ≠ t := fun q => by have := hS.1; rw [← q, hkb.1] at this; simp only at this; omega
  have hbk : ∀ z, isK M z → z ≠ be ∧ z + 1 ≠ be := fun z hz => ⟨fun q => by have := hz.1; rw [q, hkb.1] at this; simp only at this; omega, fun q => by have := hz.2.2; rw [q, hkb.1] at this; cases this; omega⟩
  -- contents of the first buckets
  have cont : ∀ k, k ≤ n → (allP P k).map (ctc M) = ((List.range k).flatMap (fun i => T.filter (inB n own i false))).map kad := by
    intro k
    induction k with
    | zero => intro _; rfl
    | succ k ih =>
      intro hk
      rw [allP_succ, List.map_append, ih (by omega), hCn k false (by omega), h2 k false (by omega), List.range_succ, List.flatMap_append, List.map_append]
      simp
  have isct : ∀ k, k ≤ n → ∀ c, c ∈ allP P k → isCt M c := by
    intro k hk c hc
    obtain ⟨i, hi, hci⟩ := List.mem_flatMap.mp hc
    exact (hP i false (by have := List.mem_range.mp hi; omega)).1.2.2.2.2.2 c hci
  have pm : ((allP P n).map (ctc M)).Perm ((T.filter (fun x => x.2.2 == false)).map kad) := by
    rw [cont n (Nat.le_refl _)]
    refine (buckets_perm (n := n) (own := own) (T := T) (b := false) n).map kad |>.trans (List.Perm.of_eq ?_)
    congr 1
    apply List.filter_congr
    intro x _
    have : bkI n own x < n := by unfold bkI; omega
    rw [decide_eq_true this]; rfl
  have okx : ∀ y, y ∈ (T.filter (fun x => x.2.2 == false)).map kad → kyo y.1 := fun y hy => by
    obtain ⟨x, hx, rfl⟩ := List.mem_map.mp hy
    exact (h5.2.2 x (List.mem_filter.mp hx).1).1
  have ndA : ((allP P n).map μ).Nodup := by
    have e : (allP P n).map μ = ((allP P n).map (ctc M)).map (fun y => kdi y.1 tgt) := by rw [List.map_map]; rfl
    rw [e, (pm.map _).nodup_iff, List.map_map]
    have nd1 : ((T.filter (fun x => x.2.2 == false)).map (·.1)).Nodup := h5.2.1.sublist ((List.filter_sublist).map _)
    rw [List.Nodup, List.pairwise_map] at nd1 ⊢
    refine List.Pairwise.imp_of_mem (fun {a b} ha hb hab z => hab ?_) nd1
    exact kdi_inj (h5.2.2 a (List.mem_filter.mp ha).1).1 (h5.2.2 b (List.mem_filter.mp hb).1).1 z
  have sub : ∀ k, k ≤ n → ∃ R, allP P n = allP P k ++ R := fun k hk => by
    refine ⟨((List.range (n - k)).map (fun i => k + i)).flatMap (fun i => P i false), ?_⟩
    unfold allP
    rw [← List.flatMap_append]
    congr 1
    have := List.range_add (n := k) (m := n - k)
    rw [show k + (n - k) = n by omega] at this
    exact this
  let QQ : Nat → List Nat := fun k => ((allP P k).filter (okC M wo)).foldl (fun acc x => (insM μ x acc).take m) []
  have QQe : ∀ k, QQ k = (srt μ ((allP P k).filter (okC M wo))).take m := fun k => srt_take μ m _
  have QQs : ∀ k, QQ (k + 1) = ((P k false).filter (okC M wo)).foldl (fun acc x => (insM μ x acc).take m) (QQ k) := fun k => by
    show ((allP P (k + 1)).filter (okC M wo)).foldl _ [] = _
    rw [allP_succ, List.filter_append, List.foldl_append]
  have QQm : ∀ k c, c ∈ QQ k → c ∈ allP P k := fun k c hc => by
    rw [QQe] at hc
    exact (List.mem_filter.mp ((srt_perm μ _).mem_iff.mp (List.mem_of_mem_take hc))).1
  have ndk : ∀ k, k ≤ n → ((allP P k).map μ).Nodup := fun k hk => by
    obtain ⟨R, hR⟩ := sub k hk
    rw [hR, List.map_append, List.nodup_append] at ndA
    exact ndA.1
  have QQsrt : ∀ k, k ≤ n → SrtM μ (QQ k) := fun k hk => by
    rw [QQe]
    exact (srt_srt ((ndk k hk).sublist ((List.filter_sublist).map _))).sublist (List.take_sublist _ _)
  obtain ⟨⟨q, z, U⟩, n2, hn2, ⟨rfl, rfl, g1, g2⟩, q2⟩ := lp_inv (b := fun s : Int × Int × MM => b_X20_nearest_6 (t : Int) (kx : Int) x2 (be : Int) s.1 s.2.1 s.2.2) (fun k s => s.1 = (((QQ k).length : Nat) : Int) ∧ s.2.1 = (k : Int) ∧ BstC s.2.2 be kb m (QQ k) ∧ ExC (fun q => q = be) M s.2.2) n
    (by
      rintro k ⟨q, z, U⟩ hk ⟨rfl, rfl, g1, g2⟩
      dsimp only at g1 g2 ⊢
      have bk := (hB.2.1 k (by omega)).2.1
      have row : RowC M (B k + 1) m (P k false) := (hP k false (by omega)).1
      have hbB : ∀ z, kd M z = (21, 25) ∨ kd M z = (588, 160) → z ≠ be := fun z hz q => by
        rcases hz with w | w <;> (rw [q, hkb.1] at w; cases w; omega)
      have hbr : be ≠ B k + 1 ∧ be ≠ B k + 1 + 1 := by
        refine ⟨fun q => ?_, fun q => ?_⟩
        · have := row.1.1; rw [← q, hkb.1] at this; simp only at this; omega
        · have := row.1.2.2; rw [← q, hkb.1] at this; cases this; exact hkb.2.2.2 rfl
      have nd2 := ndk (k + 1) (by omega)
      rw [allP_succ, List.map_append, List.nodup_append] at nd2
      obtain ⟨U', r1, r2, r3⟩ := c_nearRow (x5 := ((k : Nat) : Int)) (x2 := x2) (wo := wo) hm ⟨hS.1, hS.2.2.2.1⟩ row hkx hw hbt hbr ⟨hkb.1, hkb.2.1, hkb.2.2.1⟩ hbk (P k false).length 0 U (QQ k) FU (by omega) (by have := row.2.2.1; unfold FU; omega) g2 g1 (fun _ => Nat.zero_le _) (QQsrt k (by omega)) (fun c hc c' hc' => by
        rw [List.drop_zero] at hc
        exact nd2.2.2 (μ c') (List.mem_map.mpr ⟨c', QQm k c' hc', rfl⟩) (μ c) (List.mem_map.mpr ⟨c, hc, rfl⟩)) (by rw [List.drop_zero]; exact nd2.2.1)
      rw [List.drop_zero, ← QQs k] at r1 r2
      refine ⟨((((QQ (k + 1)).length : Nat) : Int), ((k + 1 : Nat) : Int), U'), ?_, rfl, rfl, r2, r3⟩
      unfold b_X20_nearest_6 l_X20_nearest_30
      rw [gfi_e (by rw [g2.kd]; exact hS.1), Option.bind_some, g2.rI (Ne.symm hbt), hS.2.2.2.2.2.2.2.1, w32_nn (by omega), w32_nn (by omega), if_pos (by omega), gfr_e (by rw [g2.kd]; exact hS.1), g2.rR (Ne.symm hbt), hS.2.2.2.2.2.1, Option.bind_some, lar_n (show kd U (t + 1) = (588, 160) by rw [g2.kd]; exact hS.2.2.2.2.2.2.1) (by decide) (by omega) (by decide), Option.bind_some, g2.rR (hbB _ (Or.inr hS.2.2.2.2.2.2.1)), (hB.2.1 k (by omega)).1, gfr_e (by rw [g2.kd, bk.1]), g2.rR (hbB _ (Or.inl bk.1)), bk.2.1, Option.bind_some]
      rw [show lpN (fun s : Int × Int × MM => b_X20_nearest_30 (t : Int) (kx : Int) x2 (be : Int) s.1 ((k : Nat) : Int) ((B k + 1 : Nat) : Int) s.2.1 s.2.2) FU ((((QQ k).length : Nat) : Int), 0, U) = _ from r1]
      unfold j_X20_nearest_178
      rw [cadd1]
      rfl) FU 0 (0, 0, M) (by omega) (by unfold FU; omega) ⟨rfl, rfl, ⟨hkb.1, ⟨hkb.2.1, hkb.2.2.1⟩, Nat.zero_le _, fun z hz => by simp [QQ, allP] at hz, fun c hc => by simp [QQ, allP] at hc⟩, ExC.refl⟩
  dsimp only at g1 g2
  refine ⟨U, QQ n, ?_, g1, ?_, fun c hc => isct n (Nat.le_refl _) c (QQm n c hc), g2⟩
  · unfold f_X20_nearest l_X20_nearest_6
    refine q2.trans ?_
    refine lpN_end (b := fun s : Int × Int × MM => b_X20_nearest_6 (t : Int) (kx : Int) x2 (be : Int) s.1 s.2.1 s.2.2) hn2 ?_
    dsimp only
    unfold b_X20_nearest_6
    rw [gfi_e (by rw [g2.kd]; exact hS.1), Option.bind_some, g2.rI (Ne.symm hbt), hS.2.2.2.2.2.2.2.1, if_neg (Int.lt_irrefl _)]
  · have e1 : (QQ n).map (ctc M) = (srt (fun y : Ky × Int => kdi y.1 tgt) (((allP P n).filter (okC M wo)).map (ctc M))).take m := by
      rw [QQe, List.map_take, ← srt_map (ctc M) (fun y : Ky × Int => kdi y.1 tgt)]
    have e2 : ((allP P n).filter (okC M wo)).map (ctc M) = ((allP P n).map (ctc M)).filter (fun y => !decide (wo = some y.1)) := filt_map (f := ctc M) (p := fun y : Ky × Int => !decide (wo = some y.1))
    have pm2 : (((allP P n).filter (okC M wo)).map (ctc M)).Perm ((T.filter (okN wo)).map kad) := by
      rw [e2]
      refine (pm.filter _).trans (List.Perm.of_eq ?_)
      rw [← filt_map (f := kad) (p := fun y : Ky × Int => !decide (wo = some y.1)), List.filter_filter]
      congr 1
      apply List.filter_congr
      intro x _
      unfold okN
      show (!decide (wo = some x.1) && (x.2.2 == false)) = (!x.2.2 && !decide (wo = some x.1))
      rw [Bool.and_comm]
      cases x.2.2 <;> rfl
    have nd3 : ((((allP P n).filter (okC M wo)).map (ctc M)).map (fun y : Ky × Int => kdi y.1 tgt)).Nodup := by
      rw [List.map_map]
      exact ndA.sublist ((List.filter_sublist).map _)
    rw [e1, srt_eq nd3 pm2, ← srt_map kad (fun y : Ky × Int => kdi y.1 tgt)]
    unfold nearT
    rw [List.map_take]
    rfl
end CNEAR
