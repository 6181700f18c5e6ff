/-! a table and the pool, by the table's rows -/
def okF (n : Nat) (own : Ky) (T : List Row) (pf : Nat → Bool) : Prop := n < 160 → (∀ x, x ∈ T → x.2.2 = true → kc x.1 own < ((n - 1 : Nat) : Int)) ∧ ∀ c, n - 1 ≤ c → pf c = false
def TT (M : MM) (ow : Nat → Nat × Nat) (t ko m : Nat) (own : Ky) (T : List Row) (pf : Nat → Bool) (n bA : Nat) (B : Nat → Nat) (P : Nat → Bool → List Nat) (Cn : Nat → Bool → List (Ky × Int)) (fl : Nat → Int) (a len : Nat) (sp : List Nat) : Prop :=
  TPool M ow t ko m own n bA B P Cn fl a len sp ∧ (1 ≤ n ∧ n ≤ bA) ∧ (∀ i b, i < n → Cn i b = (T.filter (inB n own i b)).map kad) ∧ (∀ i b, n ≤ i → i < bA → Cn i b = []) ∧ (∀ i, i < n → fl i = b2i (pf i)) ∧ okT own T ∧ okF n own T pf
section CTT
variable {M M1 : MM} {ow ow1 : Nat → Nat × Nat} {t ko m n bA i j c k kx a len : Nat} {own : Ky} {T : List Row} {pf : Nat → Bool} {B : Nat → Nat} {P : Nat → Bool → List Nat} {Cn : Nat → Bool → List (Ky × Int)} {fl : Nat → Int} {sp : List Nat} {b : Bool} {ad : Int} {x : Row}
theorem TT.tabC (h : TT M ow t ko m own T pf n bA B P Cn fl a len sp) : TabC M ow t ko m own T pf n bA B P := by
  obtain ⟨⟨hu, hS, hO, hk, hB, hP, hC, hF, hL, hN, hW, ht⟩, h1, h2, h3, h4, h5, h6⟩ := h
  refine ⟨hS, hO, hB, hP, h1, fun i b hi => by rw [hC i b (by omega), h2 i b hi], fun i b q1 q2 => ?_, fun i hi => by rw [hF i (by omega), h4 i hi], h5, h6⟩
  have := hC i b q2
  rw [h3 i b q1 q2] at this
  exact List.map_eq_nil_iff.mp this
/-- cells of a table are of these kinds -/
theorem A3_kind (hS : TabS M t ko m n) (hB : BkS M ow t m bA B) {q : Nat} (h : A3 B bA t q) : (kd M q).1 = 20 ∨ (kd M q).1 = 588 ∨ (kd M q).1 = 21 ∨ (kd M q).1 = 22 ∨ (kd M q).1 = 486 := by
  rcases h with e | e | ⟨i, hi, e1, e2⟩
  · rw [e]; exact Or.inl hS.1
  · rw [e, hS.2.2.2.2.2.2.1]; exact Or.inr (Or.inl rfl)
  · have z := (hB.2.1 i hi).2.1
    have : q = B i ∨ q = B i + 1 ∨ q = B i + 1 + 1 ∨ q = B i + 3 ∨ q = B i + 3 + 1 := by omega
    rcases this with e | e | e | e | e
    · rw [e, z.1]; exact Or.inr (Or.inr (Or.inl rfl))
    · rw [e, z.2.2.2.1.1]; exact Or.inr (Or.inr (Or.inr (Or.inl rfl)))
    · rw [e, z.2.2.2.1.2.2]; exact Or.inr (Or.inr (Or.inr (Or.inr rfl)))
    · rw [e, z.2.2.2.2.1]; exact Or.inr (Or.inr (Or.inr (Or.inl rfl)))
    · rw [e, z.2.2.2.2.2.2]; exact Or.inr (Or.inr (Or.inr (Or.inr rfl)))
/-- after a split -/
theorem tt_split (h : TT M ow t ko m own T pf n bA B P Cn fl a len sp) (hn : n < 160) : ∃ (M' : MM) (ow' : Nat → Nat × Nat) (bA' : Nat) (B' : Nat → Nat) (P' : Nat → Bool → List Nat) (Cn' : Nat → Bool → List (Ky × Int)) (fl' : Nat → Int), f_X20_split (t : Int) M = some M' ∧ TT M' ow' t ko m own T pf (n + 1) bA' B' P' Cn' fl' a len sp ∧ ((bA' = bA ∧ nN M' = nN M ∧ nU M' = nU M) ∨ (n = bA ∧ bA' = bA + 1 ∧ nN M' = nN M + 5 ∧ nU M' = nU M + (7 + 2 * m))) ∧ OwF M t ow ow' ∧ (∀ i, i < bA → B' i = B i) ∧ (∀ i, bA ≤ i → i < bA' → nN M ≤ B' i) ∧ ExA (A3 B bA t) M M' ∧ (∀ z, isK M z → isK M' z ∧ kC M' z = kC M z ∧ kd M' z = kd M z) := by
  obtain ⟨M', ow', bA', B', P', s1, s2, s3, s4, s5, s5', s6⟩ := c_split h.tabC h.1.1 hn
  obtain ⟨⟨hu, hS, hO, hk, hB, hP, hC, hF, hL, hN, hW, ht⟩, h1, h2, h3, h4, h5, h6⟩ := id h
  obtain ⟨t1, t2, t3, t4, t5, t6, t7, t8, t9, t10⟩ := id s2
  have nA : ∀ z, (kd M z).1 ≠ 20 → (kd M z).1 ≠ 588 → (kd M z).1 ≠ 21 → (kd M z).1 ≠ 22 → (kd M z).1 ≠ 486 → ¬ A3 B bA t z := fun z q1 q2 q3 q4 q5 q => by have := A3_kind hS hB q; omega
  obtain ⟨ka, ea, ea2⟩ := pool_k hL
  have l28 : 28 < nN M := hu.lt (by rw [hL.1]; decide)
  have lkk : ∀ z, isK M z → isK M' z ∧ kC M' z = kC M z ∧ kd M' z = kd M z := fun z hz => by
    have l := isK_lt hu hz
    exact ⟨s6.isK hu (nA z (by rw [hz.1]; decide) (by rw [hz.1]; decide) (by rw [hz.1]; decide) (by rw [hz.1]; decide) (by rw [hz.1]; decide)) hz, s6.kC l (nA _ (by rw [hz.2.2]; decide) (by rw [hz.2.2]; decide) (by rw [hz.2.2]; decide) (by rw [hz.2.2]; decide) (by rw [hz.2.2]; decide)), s6.kd (by omega)⟩
  refine ⟨M', ow', bA', B', P', fun i b => (P' i b).map (ctc M'), fun i => rI M' (B' i) 2, s1, ⟨⟨s6.2.1 hu, t1, t2, by rw [(lkk ko hS.2.2.1).2.2]; exact hk, t3, t4, fun i b _ => rfl, fun i _ => rfl, ?_, hN, fun c hc => ?_, ht⟩, t5, t6, fun i b q1 q2 => by dsimp only; rw [t7 i b q1 q2]; rfl, t8, t9, t10⟩, s3, s4, s5, s5', s6, lkk⟩
  · refine hL.exa s6 hu (nA 28 (by rw [hL.1]; decide) (by rw [hL.1]; decide) (by rw [hL.1]; decide) (by rw [hL.1]; decide) (by rw [hL.1]; decide)) ?_ (fun c hc => ?_)
    · rcases hL.2.2.1 with z | z <;> exact nA a (by rw [z]; simp) (by rw [z]; simp) (by rw [z]; simp) (by rw [z]; simp) (by rw [z]; simp)
    · have hcc := hL.2.2.2.2.2.2.2 c hc
      exact ⟨nA c (by rw [hcc.1]; decide) (by rw [hcc.1]; decide) (by rw [hcc.1]; decide) (by rw [hcc.1]; decide) (by rw [hcc.1]; decide), nA _ (by rw [hcc.2.2.1]; decide) (by rw [hcc.2.2.1]; decide) (by rw [hcc.2.2.1]; decide) (by rw [hcc.2.2.1]; decide) (by rw [hcc.2.2.1]; decide)⟩
  · have hcc := hL.2.2.2.2.2.2.2 c hc
    have l := isCt_lt hu hcc
    have o := hW c hc
    rw [(s4 c (by omega)).2.1 (by rw [o]; exact fun q => ht q.symm)]
    exact o
/-- lists of a table's rows: what is taken out -/
theorem cn_rm {T : List Row} (hT : okT own T) (hx : x ∈ T) (h0 : inB n own i b x = true) {k : Nat} (hk : k < ((T.filter (inB n own i b)).map kad).length) (hxk : (((T.filter (inB n own i b)).map kad).getD k ((0, 0, 0, 0, 0), 0)).1 = x.1) (i' : Nat) (b' : Bool) : ((rmT T x.1).filter (inB n own i' b')).map kad = up2 (fun i b => (T.filter (inB n own i b)).map kad) i b (((T.filter (inB n own i b)).map kad).eraseIdx k) i' b' := by
  have hnd : (T.map (·.1)).Nodup := hT.2.1
  by_cases q : i' = i ∧ b' = b
  · rw [q.1, q.2, up2_eq]
    have nd2 : (((T.filter (inB n own i b)).map kad).map (fun y => y.1)).Nodup := by
      rw [List.map_map]
      exact hnd.sublist ((List.filter_sublist).map _)
    rw [er_filter (fun y : Ky × Int => y.1) _ k hk nd2]
    have e : ((T.filter (inB n own i b)).map kad)[k].1 = x.1 := by rw [← hxk]; grind
    rw [e, ← filt_map (f := kad), List.filter_filter]
    unfold rmT
    rw [List.filter_filter]
    congr 1
    apply List.filter_congr
    intro y _
    rw [Bool.and_comm]; rfl
  · rw [up2_ne q]
    congr 1
    unfold rmT
    rw [List.filter_filter]
    apply List.filter_congr
    intro y hy
    by_cases e : y.1 = x.1
    · have : y = x := by
        have a1 := fnd_some hnd hy
        have a2 := fnd_some hnd hx
        rw [e, a2] at a1
        exact (Option.some.inj a1).symm
      rw [this]
      have hne : inB n own i' b' x = false := by
        unfold inB at h0 ⊢
        simp only [Bool.and_eq_true, decide_eq_true_eq, beq_iff_eq] at h0
        cases hq : (decide (bkI n own x = i') && (x.2.2 == b')) with
        | false => rfl
        | true =>
          simp only [Bool.and_eq_true, decide_eq_true_eq, beq_iff_eq] at hq
          exact absurd ⟨hq.1.symm.trans h0.1, hq.2.symm.trans h0.2⟩ q
      rw [hne]; simp
    · simp [e]
theorem cn_add {T : List Row} (i' : Nat) (b' : Bool) : ((T ++ [x]).filter (inB n own i' b')).map kad = if i' = bkI n own x ∧ b' = x.2.2 then (T.filter (inB n own i' b')).map kad ++ [kad x] else (T.filter (inB n own i' b')).map kad := by
  rw [List.filter_append, List.map_append]
  by_cases q : i' = bkI n own x ∧ b' = x.2.2
  · rw [if_pos q]
    congr 1
    have : inB n own i' b' x = true := by unfold inB; rw [q.1, q.2]; simp
    rw [List.filter_cons_of_pos this]; rfl
  · rw [if_neg q]
    have : inB n own i' b' x = false := by
      unfold inB
      cases hq : (decide (bkI n own x = i') && (x.2.2 == b')) with
      | false => rfl
      | true =>
        simp only [Bool.and_eq_true, decide_eq_true_eq, beq_iff_eq] at hq
        exact absurd ⟨hq.1.symm, hq.2.symm⟩ q
    rw [List.filter_cons_of_neg (by rw [this]; decide)]
    simp
end CTT
