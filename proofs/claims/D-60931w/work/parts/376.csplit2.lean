section CSPLIT2
variable {A : Nat → Prop} {M M1 : MM} {ow ow1 : Nat → Nat × Nat} {t ko m n bA i j c : Nat} {own : Ky} {T : List Row} {pf : Nat → Bool} {B : Nat → Nat} {P : Nat → Bool → List Nat} {b : Bool}
theorem inB_lt {x : Row} (h : i < n - 1) : inB (n + 1) own i b x = inB n own i b x := by
  unfold inB bkI
  have hk := kc_lo x.1 own
  congr 1
  rw [decide_eq_decide]
  omega
theorem inB_old {x : Row} (hn : 1 ≤ n) : inB (n + 1) own (n - 1) b x = (decide (kc x.1 own = ((n - 1 : Nat) : Int)) && inB n own (n - 1) b x) := by
  unfold inB bkI
  have hk := kc_lo x.1 own
  rw [← Bool.and_assoc]
  congr 1
  rw [← Bool.decide_and, decide_eq_decide]
  omega
theorem inB_new {x : Row} (hn : 1 ≤ n) : inB (n + 1) own n b x = (!decide (kc x.1 own = ((n - 1 : Nat) : Int)) && inB n own (n - 1) b x) := by
  unfold inB bkI
  have hk := kc_lo x.1 own
  rw [← Bool.and_assoc]
  congr 1
  rw [← decide_not, ← Bool.decide_and, decide_eq_decide]
  omega
/-- what changed on the way of a table's steps: owners of others and of cells that were stay -/
def OwF (M : MM) (t : Nat) (ow ow' : Nat → Nat × Nat) : Prop := ∀ z, z < nN M → (ow' z).1 = (ow z).1 ∧ ((ow z).1 ≠ t → ow' z = ow z) ∧ (ow z = (t, 0) → kd M z = (21, 25) → ow' z = ow z)
theorem c_split (hT : TabC M ow t ko m own T pf n bA B P) (hu : UN M) (hn : n < 160) : ∃ (M' : MM) (ow' : Nat → Nat × Nat) (bA' : Nat) (B' : Nat → Nat) (P' : Nat → Bool → List Nat), f_X20_split (t : Int) M = some M' ∧ TabC M' ow' t ko m own T pf (n + 1) bA' B' P' ∧ ((bA' = bA ∧ nN M' = nN M ∧ nU M' = nU M) ∨ (n = bA ∧ bA' = bA + 1 ∧ nN M' = nN M + 5 ∧ nU M' = nU M + (7 + 2 * m))) ∧ OwF M t ow ow' ∧ (∀ i, i < bA → B' i = B i) ∧ (∀ i, bA ≤ i → i < bA' → nN M ≤ B' i) ∧ ExA (A3 B bA t) M M' := by
  obtain ⟨hS, hO, hB, hP, hC⟩ := id hT
  obtain ⟨c1, c2, c3, c4, c5, c6⟩ := id hC
  obtain ⟨h1, h2, h3, h4, h5, h6, h7, h8, h9⟩ := id hS
  have hb := hB.1
  obtain ⟨M1, ow1, bA1, B1, P1, o1, o2, o3, o4, o5, o6, o7, o8, o9, o10, o11, o12⟩ := c_open hu hS hB hP c1.2 hn c3
  have hu1 : UN M1 := o12.2.1 hu
  have hB1 : B1 (n - 1) = B (n - 1) := (o7 (n - 1) (by omega)).1
  have hP1 : P1 (n - 1) = P (n - 1) := (o7 (n - 1) (by omega)).2
  have r1 := o5 (n - 1) false (by omega)
  have r2 := o5 n false (by omega)
  rw [o8 n false (by omega) (by omega)] at r2
  obtain ⟨M2, s1, s2', s3, s4⟩ := c_splitL (own := own) hu1 o2 (by rw [o3]; exact hO) o4 ⟨c1.1, o6⟩ r1.1 r1.2.1 r2.1
  -- contents of contacts stay
  have ct1 : ∀ c, isCt M c → isCt M1 c ∧ ctc M1 c = ctc M c := fun c hc => by
    have nk : ∀ z, (kd M z).1 ≠ 20 → (kd M z).1 ≠ 588 → (kd M z).1 ≠ 21 → ¬ (z = t ∨ z = t + 1 ∨ (n < bA ∧ z = B n)) := fun z q1 q2 q3 q => by
      rcases q with q | q | q
      · exact q1 (by rw [q]; exact h1)
      · exact q2 (by rw [q, h7])
      · exact q3 (by rw [q.2, (hB.2.1 n q.1).2.1.1])
    have k2 : kd M (c + 2) = (64, 5) := hc.2.2.2.2.2
    exact ⟨hc.exa o12 hu (nk _ (by rw [hc.1]; decide) (by rw [hc.1]; decide) (by rw [hc.1]; decide)) (nk _ (by rw [hc.2.2.1]; decide) (by rw [hc.2.2.1]; decide) (by rw [hc.2.2.1]; decide)), ctc.exa o12 hu hc (nk _ (by rw [hc.1]; decide) (by rw [hc.1]; decide) (by rw [hc.1]; decide)) (nk _ (by rw [k2]; decide) (by rw [k2]; decide) (by rw [k2]; decide))⟩
  have ct2 : ∀ c, isCt M1 c → isCt M2 c ∧ ctc M2 c = ctc M1 c := fun c hc => by
    have a1 := ct_ne hc r1.1.1
    have a2 := ct_ne hc r2.1.1
    exact ⟨hc.exc s4 (by omega) (by omega), ctc.exc s4 (by omega) (by omega)⟩
  let kp : Nat → Bool := fun c => decide (kc (ctc M1 c).1 own = ((n - 1 : Nat) : Int))
  let L := P (n - 1) false
  have hL : P1 (n - 1) false = L := by rw [hP1]
  rw [hL] at s2' s3 r1
  let mv2 : List Nat := L.filter (fun c => !kp c)
  let ow2 : Nat → Nat × Nat := fun z => if z ∈ mv2 then (t, rwA B1 n false) else ow1 z
  let P2 : Nat → Bool → List Nat := fun i b => if b = false ∧ i = n - 1 then L.filter kp else if b = false ∧ i = n then mv2 else P1 i b
  have mvL : ∀ z, z ∈ mv2 → z ∈ L := fun z hz => (List.mem_filter.mp hz).1
  have mvo : ∀ z, z ∈ mv2 → ow1 z = (t, rwA B1 (n - 1) false) ∧ isCt M1 z := fun z hz => ⟨r1.2.2 z (mvL z hz), r1.1.2.2.2.2.2 z (mvL z hz)⟩
  -- kinds of what the loop wrote
  have kn : ∀ z, ((z = rwA B1 (n - 1) false ∨ z = rwA B1 (n - 1) false + 1) ∨ (z = rwA B1 n false ∨ z = rwA B1 n false + 1)) → (kd M1 z).1 = 22 ∨ (kd M1 z).1 = 486 ∨ (kd M1 z).1 = 23 := by
    intro z hz
    rcases hz with (q | q) | (q | q)
    · rw [q, r1.1.1.1]; exact Or.inl rfl
    · rw [q, r1.1.1.2.2]; exact Or.inr (Or.inl rfl)
    · rw [q, r2.1.1.1]; exact Or.inl rfl
    · rw [q, r2.1.1.2.2]; exact Or.inr (Or.inl rfl)
  obtain ⟨sS, sK⟩ := TabS.exk s4 kn o2
  have nB2 : ∀ z, (kd M1 z).1 = 21 ∨ (kd M1 z).1 = 588 → ¬ ((z = rwA B1 (n - 1) false ∨ z = rwA B1 (n - 1) false + 1) ∨ (z = rwA B1 n false ∨ z = rwA B1 n false + 1)) := fun z hz q => by
    have := kn z q; omega
  have o47 := o2.2.2.2.2.2.2.1
  -- rows
  have rapp : ∀ i b, i < bA1 → ¬ (b = false ∧ i = n - 1) → ¬ (b = false ∧ i = n) → ¬ ((rwA B1 i b = rwA B1 (n - 1) false ∨ rwA B1 i b = rwA B1 (n - 1) false + 1) ∨ (rwA B1 i b = rwA B1 n false ∨ rwA B1 i b = rwA B1 n false + 1)) ∧ ¬ ((rwA B1 i b + 1 = rwA B1 (n - 1) false ∨ rwA B1 i b + 1 = rwA B1 (n - 1) false + 1) ∨ (rwA B1 i b + 1 = rwA B1 n false ∨ rwA B1 i b + 1 = rwA B1 n false + 1)) := by
    intro i b hi q1 q2
    have a1 : ∀ w, (rwA B1 i b = rwA B1 (n - 1) false ∨ rwA B1 i b = rwA B1 (n - 1) false + 1 ∨ rwA B1 i b + 1 = rwA B1 (n - 1) false) → w := fun w h => (q1 ⟨(rw_apart o4 hi (show n - 1 < bA1 by omega) h).2, (rw_apart o4 hi (show n - 1 < bA1 by omega) h).1⟩).elim
    have a2 : ∀ w, (rwA B1 i b = rwA B1 n false ∨ rwA B1 i b = rwA B1 n false + 1 ∨ rwA B1 i b + 1 = rwA B1 n false) → w := fun w h => (q2 ⟨(rw_apart o4 hi o6 h).2, (rw_apart o4 hi o6 h).1⟩).elim
    constructor
    · rintro ((h | h) | (h | h))
      · exact a1 _ (Or.inl h)
      · exact a1 _ (Or.inr (Or.inl h))
      · exact a2 _ (Or.inl h)
      · exact a2 _ (Or.inr (Or.inl h))
    · rintro ((h | h) | (h | h))
      · exact a1 _ (Or.inr (Or.inr h))
      · exact a1 _ (Or.inl (by omega))
      · exact a2 _ (Or.inr (Or.inr h))
      · exact a2 _ (Or.inl (by omega))
  have rowsOK : ∀ i b, i < bA1 → RowC M2 (rwA B1 i b) m (P2 i b) := by
    intro i b hi
    show RowC M2 (rwA B1 i b) m (if b = false ∧ i = n - 1 then L.filter kp else if b = false ∧ i = n then mv2 else P1 i b)
    by_cases q1 : b = false ∧ i = n - 1
    · rw [if_pos q1, q1.1, q1.2]; exact s2'
    · rw [if_neg q1]
      by_cases q2 : b = false ∧ i = n
      · rw [if_pos q2, q2.1, q2.2]; exact s3
      · rw [if_neg q2]
        have w := rapp i b hi q1 q2
        have hp := (o5 i b hi).1
        exact hp.exc s4 w.1 w.2 (fun c hc => by
          have hcc := hp.2.2.2.2.2 c hc
          have a1 := ct_ne hcc r1.1.1
          have a2 := ct_ne hcc r2.1.1
          omega)
  have hBk2 : BkS M2 ow2 t m bA1 B1 := by
    refine ⟨o4.1, fun j hj => ⟨?_, ?_, ?_⟩, o4.2.2.1, fun j q1 q2 => ?_⟩
    · rw [s4.rR (nB2 _ (by rw [o47]; exact Or.inr rfl))]; exact (o4.2.1 j hj).1
    · have z := (o4.2.1 j hj).2.1
      have z1 := nB2 _ (Or.inl (by rw [z.1]))
      exact ⟨by rw [s4.kd]; exact z.1, by rw [s4.rR z1]; exact z.2.1, by rw [s4.rR z1]; exact z.2.2.1, (rowsOK j false hj).1, (rowsOK j true hj).1⟩
    · show (if B1 j ∈ mv2 then _ else ow1 (B1 j)) = _
      rw [if_neg (fun q => by
        have := (mvo _ q).2.1
        rw [(o4.2.1 j hj).2.1.1] at this; cases this)]
      exact (o4.2.1 j hj).2.2
    · rw [s4.rR (nB2 _ (by rw [o47]; exact Or.inr rfl))]; exact o4.2.2.2 j q1 q2
  have hPt2 : PtS M2 ow2 t m bA1 B1 P2 := by
    intro i b hi
    refine ⟨rowsOK i b hi, ?_, fun c hc => ?_⟩
    · show (if b = false ∧ i = n - 1 then L.filter kp else if b = false ∧ i = n then mv2 else P1 i b).Nodup
      split
      · exact r1.2.1.filter _
      · split
        · exact r1.2.1.filter _
        · exact (o5 i b hi).2.1
    · show (if c ∈ mv2 then (t, rwA B1 n false) else ow1 c) = (t, rwA B1 i b)
      have hc : c ∈ (if b = false ∧ i = n - 1 then L.filter kp else if b = false ∧ i = n then mv2 else P1 i b) := hc
      by_cases q1 : b = false ∧ i = n - 1
      · rw [if_pos q1] at hc
        have hk := List.mem_filter.mp hc
        rw [if_neg (fun q => by have := (List.mem_filter.mp q).2; rw [hk.2] at this; cases this), q1.1, q1.2]
        exact r1.2.2 c hk.1
      · rw [if_neg q1] at hc
        by_cases q2 : b = false ∧ i = n
        · rw [if_pos q2] at hc
          rw [if_pos hc, q2.1, q2.2]
        · rw [if_neg q2] at hc
          have oc := (o5 i b hi).2.2 c hc
          rw [if_neg (fun q => by
            have h1 := (mvo c q).1
            rw [oc] at h1
            have h2 : rwA B1 i b = rwA B1 (n - 1) false := congrArg Prod.snd h1
            have h3 := rw_apart o4 hi (show n - 1 < bA1 by omega) (Or.inl h2)
            exact q1 ⟨h3.2, h3.1⟩)]
          exact oc
  have ctcL : ∀ l : List Nat, (∀ c, c ∈ l → isCt M1 c) → l.map (ctc M2) = l.map (ctc M1) := fun l hl => List.map_congr_left (fun c hc => (ct2 c (hl c hc)).2)
  have ctcL1 : ∀ l : List Nat, (∀ c, c ∈ l → isCt M c) → l.map (ctc M1) = l.map (ctc M) := fun l hl => List.map_congr_left (fun c hc => (ct1 c (hl c hc)).2)
  have hbase : ∀ i b, i < bA → (P1 i b).map (ctc M1) = (P i b).map (ctc M) := fun i b hi => by
    rw [(o7 i hi).2]
    exact ctcL1 _ (fun c hc => (hP i b hi).1.2.2.2.2.2 c hc)
  have hLm : L.map (ctc M1) = (T.filter (inB n own (n - 1) false)).map kad := by
    rw [← hL, hbase (n - 1) false (by omega), c2 (n - 1) false (by omega)]
  refine ⟨M2, ow2, bA1, B1, P2, ?_, ⟨sS, by rw [sK, o3]; exact hO, hBk2, hPt2, ⟨by omega, by omega⟩, fun i b hi => ?_, fun i b q1 q2 => ?_, fun i hi => ?_, c5, fun hlt => ?_⟩, ?_, ?_, ?_, ?_, ?_⟩
  · unfold f_X20_split
    rw [gfr_e h1, h6, Option.bind_some, gfi_e h1, Option.bind_some, h8, csub1 (by omega), lar_n h7 (by decide) (by omega) (by decide), Option.bind_some, Option.bind_some, (hB.2.1 (n - 1) (by omega)).1, ck_e h1, o1, Option.bind_some]
    dsimp only
    rw [← hB1, csub1 (by omega)]; exact s1
  · show ((if b = false ∧ i = n - 1 then L.filter kp else if b = false ∧ i = n then mv2 else P1 i b).map (ctc M2)) = _
    have hctL : ∀ c, c ∈ L → isCt M1 c := fun c hc => r1.1.2.2.2.2.2 c hc
    by_cases q1 : b = false ∧ i = n - 1
    · rw [if_pos q1, q1.1, q1.2, ctcL _ (fun c hc => hctL c (List.mem_filter.mp hc).1)]
      have e1 : (L.filter kp).map (ctc M1) = (L.map (ctc M1)).filter (fun y => decide (kc y.1 own = ((n - 1 : Nat) : Int))) := filt_map (f := ctc M1) (p := fun y => decide (kc y.1 own = ((n - 1 : Nat) : Int)))
      rw [e1, hLm, ← filt_map (f := kad), List.filter_filter]
      congr 1
      apply List.filter_congr
      intro x _
      rw [inB_old c1.1]; rfl
    · rw [if_neg q1]
      by_cases q2 : b = false ∧ i = n
      · rw [if_pos q2, q2.1, q2.2, ctcL _ (fun c hc => hctL c (mvL c hc))]
        have e1 : mv2.map (ctc M1) = (L.map (ctc M1)).filter (fun y => !decide (kc y.1 own = ((n - 1 : Nat) : Int))) := filt_map (f := ctc M1) (p := fun y => !decide (kc y.1 own = ((n - 1 : Nat) : Int)))
        rw [e1, hLm, ← filt_map (f := kad), List.filter_filter]
        congr 1
        apply List.filter_congr
        intro x _
        rw [inB_new c1.1]; rfl
      · rw [if_neg q2, ctcL _ (fun c hc => (o5 i b (by omega)).1.2.2.2.2.2 c hc)]
        by_cases q3 : i < n - 1
        · rw [hbase i b (by omega), c2 i b (by omega)]
          congr 1
          apply List.filter_congr
          intro x _
          rw [inB_lt q3]
        · -- reserves of the last ones are none
          have hbt : b = true := by
            cases b
            · exfalso; by_cases q4 : i = n - 1
              · exact q1 ⟨rfl, q4⟩
              · exact q2 ⟨rfl, by omega⟩
            · rfl
          have hnone : T.filter (inB (n + 1) own i b) = [] := by
            rw [List.filter_eq_nil_iff]
            intro x hx hq
            unfold inB bkI at hq
            rw [hbt] at hq
            simp at hq
            have := (c6 hn).1 x hx hq.2
            have hk := kc_lo x.1 own
            omega
          rw [hnone]
          by_cases q4 : i = n
          · rw [q4, o8 n b (by omega) (by omega)]; rfl
          · have q5 : i = n - 1 := by omega
            rw [hbase i b (by omega), c2 i b (by omega)]
            have : T.filter (inB n own i b) = [] := by
              rw [List.filter_eq_nil_iff]
              intro x hx hq
              unfold inB bkI at hq
              rw [hbt] at hq
              simp at hq
              have := (c6 hn).1 x hx hq.2
              have hk := kc_lo x.1 own
              omega
            rw [this]
  · show (if b = false ∧ i = n - 1 then L.filter kp else if b = false ∧ i = n then mv2 else P1 i b) = []
    rw [if_neg (by omega), if_neg (by omega)]
    exact o8 i b (by omega) q2
  · have q := nB2 (B1 i) (Or.inl (by rw [(o4.2.1 i (by omega)).2.1.1]))
    rw [s4.rI q]
    by_cases q2 : i = n
    · rw [q2, o9, (c6 hn).2 n (by omega)]; rfl
    · rw [o10 i (by omega) q2]; exact c4 i (by omega)
  · refine ⟨fun x hx hr => ?_, fun c hc => (c6 hn).2 c (by omega)⟩
    have := (c6 hn).1 x hx hr
    omega
  · rcases o11 with q | q
    · exact Or.inl ⟨q.1, by rw [s4.nN]; exact q.2.2.1, by rw [s4.nU]; exact q.2.2.2⟩
    · exact Or.inr ⟨q.1, q.2.1, by rw [s4.nN]; exact q.2.2.2.1, by rw [s4.nU]; exact q.2.2.2.2.1⟩
  · intro z hz
    have e1 : ow1 z = ow z := by
      rcases o11 with q | q
      · rw [q.2.1]
      · exact q.2.2.1 z hz
    show ((if z ∈ mv2 then (t, rwA B1 n false) else ow1 z).1 = _) ∧ _ ∧ _
    by_cases q : z ∈ mv2
    · have h1 := mvo z q
      rw [e1] at h1
      refine ⟨by rw [if_pos q, h1.1], fun h2 => absurd (by rw [h1.1]) h2, fun h2 h3 => ?_⟩
      have := h1.2.1
      rw [o12.kd hz, h3] at this; cases this
    · show _ ∧ (_ → (if z ∈ mv2 then (t, rwA B1 n false) else ow1 z) = _) ∧ (_ → _ → (if z ∈ mv2 then (t, rwA B1 n false) else ow1 z) = _)
      rw [if_neg q, e1]
      exact ⟨rfl, fun _ => rfl, fun _ _ => rfl⟩
  · exact fun i hi => (o7 i hi).1
  · intro i q1 q2
    rcases o11 with w | w
    · omega
    · have : i = n := by omega
      rw [this, w.2.2.2.2.2]; exact Nat.le_refl _
  · have a3 : ∀ q, q < nN M → (q = t ∨ q = t + 1 ∨ (n < bA ∧ q = B n)) ∨ ((q = rwA B1 (n - 1) false ∨ q = rwA B1 (n - 1) false + 1) ∨ (q = rwA B1 n false ∨ q = rwA B1 n false + 1)) → A3 B bA t q := by
      intro q hq hh
      have bkt : ∀ i, i < bA → B i ≤ q → q ≤ B i + 4 → A3 B bA t q := fun i hi h1 h2 => Or.inr (Or.inr ⟨i, hi, h1, h2⟩)
      rcases hh with (h | h | h) | (h | h)
      · exact Or.inl h
      · exact Or.inr (Or.inl h)
      · exact bkt n h.1 (by omega) (by omega)
      · refine bkt (n - 1) (by omega) ?_ ?_ <;> (unfold rwA at h; rw [hB1] at h; simp at h; omega)
      · by_cases c0 : n < bA
        · have hBn : B1 n = B n := (o7 n c0).1
          refine bkt n c0 ?_ ?_ <;> (unfold rwA at h; rw [hBn] at h; simp at h; omega)
        · -- the new bucket is no cell that was
          exfalso
          rcases o11 with w | w
          · omega
          · have hbN := w.2.2.2.2.2
            unfold rwA at h
            simp at h
            omega
    refine ⟨by rw [s4.nN]; exact o12.1, fun hu b hb => by rw [s4.kd]; exact o12.2.1 hu b (by rw [s4.nN] at hb; exact hb), fun b hb => by rw [s4.kd]; exact o12.2.2.1 b hb, fun z hz hA => ?_⟩
    have t2 := s4.1 z (fun q => hA (a3 z hz (Or.inr q)))
    have t3 := o12.2.2.2 z hz (fun q => hA (a3 z hz (Or.inl q)))
    exact ⟨fun i => (t2.1 i).trans (t3.1 i), fun i => (t2.2 i).trans (t3.2 i)⟩
end CSPLIT2
