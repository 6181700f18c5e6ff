theorem insP_hi (fl : List Dg) (due : Int) : ∀ m k, insP fl due m ≤ k → k < m → due < (fl.getD k dg0).2.2.1
  | 0, k, _, h => by omega
  | m + 1, k, h1, h2 => by
    unfold insP at h1
    split at h1
    · next hc =>
      by_cases hk : k = m
      · rw [hk]; exact hc
      · exact insP_hi fl due m k h1 (by omega)
    · omega
theorem insP_top (fl : List Dg) (due : Int) : ∀ m, 0 < insP fl due m → (fl.getD (insP fl due m - 1) dg0).2.2.1 ≤ due
  | 0, h => by simp [insP] at h
  | m + 1, h => by
    unfold insP at h ⊢
    split
    · next hc => rw [if_pos hc] at h; exact insP_top fl due m h
    · next hc => rw [show m + 1 - 1 = m from rfl]; omega
def OutV (V : VV) (l : List Int) : Prop := vI V 156 41 = (l.length : Int) ∧ l.length ≤ 460 ∧ ∀ i, i < l.length → vI V 188 i = l.getD i 0
theorem OutV_fr {S : Nat → Bool} {V V1 : VV} {l : List Int} (h : FrV S V V1) (hs : S 9 = false) (ho : OutV V l) : OutV V1 l := ⟨by rw [fv h (show S (mv 156 41) = false from hs)]; exact ho.1, ho.2.1, fun i hi => by rw [fv h (show S (mv 188 i) = false from hs)]; exact ho.2.2 i hi⟩
theorem v_launch {V : VV} {st : Nat → Int} {tm lo f t due : Int} {fl : List Dg} {L : Nat} {l : List Int} (h : VNet V st tm lo fl L) (hlt : fl.length < 400) (hL : L < 2000000000) (ho : OutV V l) (hw : w32 f = f ∧ w32 t = t ∧ w32 due = due) :
    ∃ V', f_X16_launch f t due V = some V' ∧ VNet V' st tm lo (insF fl (f, t, due, l)) (L + 1) ∧ FrV m1 V V' := by
  obtain ⟨h1, h2, h3, h4, h5, h6, o, o1, o2, o3, o4⟩ := h
  obtain ⟨p1, p2', p3⟩ := ho
  let n := fl.length
  have hwn : w32 (n : Int) = (n : Int) := w32_id (by omega) (by omega)
  have c4 : w32 (V 156 32) = (n : Int) := h4
  let V1 := st2 V 156 32 ((n : Int) + 1)
  let V2 := st2 V1 182 n f
  let V3 := st2 V2 183 n t
  let V4 := st2 V3 184 n due
  let V5 := st2 V4 185 n (L : Int)
  let V6 := st2 V5 156 33 ((L : Int) + 1)
  let V7 := st2 V6 186 n (l.length : Int)
  have r33 : w32 (V4 156 33) = (L : Int) := by
    show vI (st2 (st2 (st2 (st2 V 156 32 _) 182 n f) 183 n t) 184 n due) 156 33 = _
    rw [vI_st2, if_neg (by omega), vI_st2, if_neg (by omega), vI_st2, if_neg (by omega), vI_st2, if_neg (by omega)]; exact h5
  have r33' : w32 (V5 156 33) = (L : Int) := by
    show vI (st2 V4 185 n _) 156 33 = _
    rw [vI_st2, if_neg (by omega)]; exact r33
  have r41 : w32 (V6 156 41) = (l.length : Int) := by
    show vI (st2 (st2 (st2 (st2 (st2 (st2 V 156 32 _) 182 n f) 183 n t) 184 n due) 185 n _) 156 33 _) 156 41 = _
    rw [vI_st2, if_neg (by omega), vI_st2, if_neg (by omega), vI_st2, if_neg (by omega), vI_st2, if_neg (by omega), vI_st2, if_neg (by omega), vI_st2, if_neg (by omega)]; exact p1
  have x7 : ∀ a i, a ≠ 156 → ¬ ((182 ≤ a ∧ a ≤ 186) ∧ i = n) → vI V7 a i = vI V a i := by
    intro a i ha hq
    show vI (st2 (st2 (st2 (st2 (st2 (st2 (st2 V 156 32 _) 182 n f) 183 n t) 184 n due) 185 n _) 156 33 _) 186 n _) a i = _
    rw [vI_st2, if_neg (by omega), vI_st2, if_neg (by omega), vI_st2, if_neg (by omega), vI_st2, if_neg (by omega), vI_st2, if_neg (by omega), vI_st2, if_neg (by omega), vI_st2, if_neg (by omega)]
  have s7 : ∀ i, i ≠ 32 → i ≠ 33 → vI V7 156 i = vI V 156 i := by
    intro i hi hj
    show vI (st2 (st2 (st2 (st2 (st2 (st2 (st2 V 156 32 _) 182 n f) 183 n t) 184 n due) 185 n _) 156 33 _) 186 n _) 156 i = _
    rw [vI_st2, if_neg (by omega), vI_st2, if_neg (by omega), vI_st2, if_neg (by omega), vI_st2, if_neg (by omega), vI_st2, if_neg (by omega), vI_st2, if_neg (by omega), vI_st2, if_neg (by omega)]
  have y32 : vI V7 156 32 = ((n + 1 : Nat) : Int) := by
    show vI (st2 (st2 (st2 (st2 (st2 (st2 (st2 V 156 32 _) 182 n f) 183 n t) 184 n due) 185 n _) 156 33 _) 186 n _) 156 32 = _
    rw [vI_st2, if_neg (by omega), vI_st2, if_neg (by omega), vI_st2, if_neg (by omega), vI_st2, if_neg (by omega), vI_st2, if_neg (by omega), vI_st2, if_neg (by omega), vI_st2, if_pos ⟨rfl, rfl⟩, w32_id (by omega) (by omega)]; omega
  have y33 : vI V7 156 33 = ((L + 1 : Nat) : Int) := by
    show vI (st2 (st2 V5 156 33 ((L : Int) + 1)) 186 n _) 156 33 = _
    rw [vI_st2, if_neg (by omega), vI_st2, if_pos ⟨rfl, rfl⟩, w32_id (by omega) (by omega)]; omega
  have y182 : vI V7 182 n = f := by
    show vI (st2 (st2 (st2 (st2 (st2 (st2 V1 182 n f) 183 n t) 184 n due) 185 n _) 156 33 _) 186 n _) 182 n = _
    rw [vI_st2, if_neg (by omega), vI_st2, if_neg (by omega), vI_st2, if_neg (by omega), vI_st2, if_neg (by omega), vI_st2, if_neg (by omega), vI_st2, if_pos ⟨rfl, rfl⟩]; exact hw.1
  have y183 : vI V7 183 n = t := by
    show vI (st2 (st2 (st2 (st2 (st2 V2 183 n t) 184 n due) 185 n _) 156 33 _) 186 n _) 183 n = _
    rw [vI_st2, if_neg (by omega), vI_st2, if_neg (by omega), vI_st2, if_neg (by omega), vI_st2, if_neg (by omega), vI_st2, if_pos ⟨rfl, rfl⟩]; exact hw.2.1
  have y184 : vI V7 184 n = due := by
    show vI (st2 (st2 (st2 (st2 V3 184 n due) 185 n _) 156 33 _) 186 n _) 184 n = _
    rw [vI_st2, if_neg (by omega), vI_st2, if_neg (by omega), vI_st2, if_neg (by omega), vI_st2, if_pos ⟨rfl, rfl⟩]; exact hw.2.2
  have y185 : vI V7 185 n = (L : Int) := by
    show vI (st2 (st2 (st2 V4 185 n (L : Int)) 156 33 _) 186 n _) 185 n = _
    rw [vI_st2, if_neg (by omega), vI_st2, if_neg (by omega), vI_st2, if_pos ⟨rfl, rfl⟩, w32_id (by omega) (by omega)]
  have y186 : vI V7 186 n = (l.length : Int) := by
    show vI (st2 V6 186 n (l.length : Int)) 186 n = _
    rw [vI_st2, if_pos ⟨rfl, rfl⟩, w32_id (by omega) (by omega)]
  -- the bytes
  let W : Nat → VV := fun k a j => if a = 187 ∧ 460 * n ≤ j ∧ j < 460 * n + k then vI V 188 (j - 460 * n) else V7 a j
  have hW0 : W 0 = V7 := by
    funext a j
    show (if a = 187 ∧ 460 * n ≤ j ∧ j < 460 * n + 0 then _ else V7 a j) = V7 a j
    rw [if_neg (by omega)]
  have wne : ∀ k a j, a ≠ 187 → vI (W k) a j = vI V7 a j := fun k a j ha => by
    show w32 (if a = 187 ∧ 460 * n ≤ j ∧ j < 460 * n + k then _ else V7 a j) = _
    rw [if_neg (fun q => ha q.1)]; rfl
  have lp := lp_seq (b := fun s : Int × VV => b_X16_launch_75 (n : Int) s.1 s.2) (x := some (W l.length)) (fun k => (((k : Nat) : Int), W k)) l.length (fun k hk => by
    have hwk := w32_j (j := k) (by omega)
    have hwi : w32 (460 * (n : Int) + (k : Int)) = ((460 * n + k : Nat) : Int) := by rw [w32_id (by omega) (by omega)]; omega
    have e41 : w32 (W k 156 41) = (l.length : Int) := by
      have : vI (W k) 156 41 = vI V7 156 41 := wne k 156 41 (by decide)
      refine this.trans ?_
      rw [s7 41 (by decide) (by decide)]; exact p1
    have e188 : vI (W k) 188 k = vI V 188 k := by rw [wne k 188 k (by decide), x7 188 k (by decide) (by omega)]
    show b_X16_launch_75 (n : Int) (k : Int) (W k) = _
    unfold b_X16_launch_75
    rw [e41, hwk, w32_id (z := (l.length : Int)) (by omega) (by omega), if_pos (by omega), l2_e hwk (by omega), Option.bind_some, s2_e hwi (by omega), Option.bind_some, e188]
    have e : st2 (W k) 187 (460 * n + k) (vI V 188 k) = W (k + 1) := by
      funext a j
      show (if a = 187 ∧ j = 460 * n + k then vI V 188 k else (if a = 187 ∧ 460 * n ≤ j ∧ j < 460 * n + k then vI V 188 (j - 460 * n) else V7 a j)) = if a = 187 ∧ 460 * n ≤ j ∧ j < 460 * n + (k + 1) then vI V 188 (j - 460 * n) else V7 a j
      by_cases c1 : a = 187 ∧ j = 460 * n + k
      · rw [if_pos c1, if_pos ⟨c1.1, by omega, by omega⟩, show j - 460 * n = k by omega]
      · rw [if_neg c1]
        by_cases c2 : a = 187 ∧ 460 * n ≤ j ∧ j < 460 * n + k
        · rw [if_pos c2, if_pos ⟨c2.1, c2.2.1, by omega⟩]
        · rw [if_neg c2, if_neg (by omega)]
    rw [e]; rfl) (by
    have e41 : w32 (W l.length 156 41) = (l.length : Int) := by
      have : vI (W l.length) 156 41 = vI V7 156 41 := wne l.length 156 41 (by decide)
      refine this.trans ?_
      rw [s7 41 (by decide) (by decide)]; exact p1
    show b_X16_launch_75 (n : Int) (l.length : Int) (W l.length) = _
    unfold b_X16_launch_75
    rw [e41, if_neg (by omega)]) FU 0 (by omega) (by unfold FU; omega)
  let V' := W l.length
  have byt : ∀ j, ¬ (460 * n ≤ j ∧ j < 460 * n + l.length) → vI V' 187 j = vI V 187 j := fun j hj => by
    show w32 (if 187 = 187 ∧ 460 * n ≤ j ∧ j < 460 * n + l.length then _ else V7 187 j) = _
    rw [if_neg (fun q => hj q.2)]
    exact x7 187 j (by decide) (by omega)
  have bytn : ∀ i, i < l.length → vI V' 187 (460 * n + i) = l.getD i 0 := fun i hi => by
    show w32 (if 187 = 187 ∧ 460 * n ≤ 460 * n + i ∧ 460 * n + i < 460 * n + l.length then _ else V7 187 _) = _
    rw [if_pos ⟨rfl, by omega, by omega⟩, w32_vI, show 460 * n + i - 460 * n = i by omega]; exact p3 i hi
  have old : ∀ g, g < n → ∀ x, SlV V g x → SlV V' g x := by
    intro g hg x hx
    obtain ⟨s1, s2, s3, s4, s5, s6⟩ := hx
    exact ⟨by rw [wne _ _ _ (by decide), x7 _ _ (by decide) (by omega)]; exact s1, by rw [wne _ _ _ (by decide), x7 _ _ (by decide) (by omega)]; exact s2, by rw [wne _ _ _ (by decide), x7 _ _ (by decide) (by omega)]; exact s3, by rw [wne _ _ _ (by decide), x7 _ _ (by decide) (by omega)]; exact s4, s5, fun i hi => by rw [byt _ (by omega)]; exact s6 i hi⟩
  have ser : ∀ g, g < n → vI V' 185 g = vI V 185 g := fun g hg => by rw [wne _ _ _ (by decide), x7 _ _ (by decide) (by omega)]
  have sern : vI V' 185 n = (L : Int) := by rw [wne _ _ _ (by decide)]; exact y185
  have newS : SlV V' n (f, t, due, l) := ⟨by rw [wne _ _ _ (by decide)]; exact y182, by rw [wne _ _ _ (by decide)]; exact y183, by rw [wne _ _ _ (by decide)]; exact y184, by rw [wne _ _ _ (by decide)]; exact y186, p2', bytn⟩
  have hpos := insP_le fl due n
  have hhi := insP_hi fl due n
  have htop := insP_top fl due n
  generalize hpo : insP fl due n = pos at hpos hhi htop
  have hlow : ∀ k, k < pos → (fl.getD k dg0).2.2.1 ≤ due := by
    intro k hk
    have h9 := htop (by omega)
    by_cases q : k = pos - 1
    · rw [q]; exact h9
    · have := o4 k (pos - 1) (by omega) (by show pos - 1 < n; omega)
      omega
  have gd : ∀ i, (insF fl (f, t, due, l)).getD i dg0 = if i < pos then fl.getD i dg0 else if i = pos then (f, t, due, l) else fl.getD (i - 1) dg0 := by
    intro i
    show (fl.take (insP fl due fl.length) ++ (f, t, due, l) :: fl.drop (insP fl due fl.length)).getD i dg0 = _
    rw [getD_ins (insP_le fl due fl.length), show insP fl due fl.length = pos from hpo]
  refine ⟨V', ?_, ⟨fun i hi => by rw [wne _ _ _ (by decide), x7 _ _ (by decide) (by omega)]; exact h1 i hi, by rw [wne _ _ _ (by decide), s7 _ (by decide) (by decide)]; exact h2, by rw [wne _ _ _ (by decide), s7 _ (by decide) (by decide)]; exact h3, by rw [wne _ _ _ (by decide), insF_len]; exact y32, by rw [wne _ _ _ (by decide)]; exact y33, by rw [insF_len]; exact hlt, fun i => if i < pos then o i else if i = pos then n else o (i - 1), ?_, ?_, ?_, ?_⟩, ?_⟩
  · unfold f_X16_launch
    rw [c4, p2_e, Option.bind_some, s2_e hwn (by omega), Option.bind_some, s2_e hwn (by omega), Option.bind_some, s2_e hwn (by omega), Option.bind_some]
    show ((s2 185 400 (n : Int) (w32 (V4 156 33)) V4).bind fun V5 => (p2 33 ((w32 (V5 156 33)) + 1) V5).bind fun V6 => (s2 186 400 (n : Int) (w32 (V6 156 41)) V6).bind fun V7 => l_X16_launch_75 (n : Int) 0 V7) = _
    rw [r33, s2_e hwn (by omega), Option.bind_some]
    show ((p2 33 ((w32 (V5 156 33)) + 1) V5).bind fun V6 => (s2 186 400 (n : Int) (w32 (V6 156 41)) V6).bind fun V7 => l_X16_launch_75 (n : Int) 0 V7) = _
    rw [r33', p2_e, Option.bind_some]
    show ((s2 186 400 (n : Int) (w32 (V6 156 41)) V6).bind fun V7 => l_X16_launch_75 (n : Int) 0 V7) = _
    rw [r41, s2_e hwn (by omega), Option.bind_some]
    show l_X16_launch_75 (n : Int) 0 V7 = _
    unfold l_X16_launch_75
    simp only [hW0] at lp
    exact lp
  · intro i hi
    rw [insF_len] at hi ⊢
    show (if i < pos then o i else if i = pos then n else o (i - 1)) < fl.length + 1
    split
    · have := o1 i (by omega); omega
    · split
      · omega
      · have := o1 (i - 1) (by omega); omega
  · intro i j hi hj hij
    rw [insF_len] at hi hj
    simp only at hij
    by_cases q1 : i < pos
    · rw [if_pos q1] at hij
      have b1 := o1 i (by omega)
      by_cases q2 : j < pos
      · rw [if_pos q2] at hij; exact o2 i j (by omega) (by omega) hij
      · rw [if_neg q2] at hij
        by_cases q3 : j = pos
        · rw [if_pos q3] at hij; omega
        · rw [if_neg q3] at hij; have := o2 i (j - 1) (by omega) (by omega) hij; omega
    · rw [if_neg q1] at hij
      by_cases q4 : i = pos
      · rw [if_pos q4] at hij
        by_cases q2 : j < pos
        · rw [if_pos q2] at hij; have := o1 j (by omega); omega
        · rw [if_neg q2] at hij
          by_cases q3 : j = pos
          · omega
          · rw [if_neg q3] at hij; have := o1 (j - 1) (by omega); omega
      · rw [if_neg q4] at hij
        have b1 := o1 (i - 1) (by omega)
        by_cases q2 : j < pos
        · rw [if_pos q2] at hij; have := o2 (i - 1) j (by omega) (by omega) hij; omega
        · rw [if_neg q2] at hij
          by_cases q3 : j = pos
          · rw [if_pos q3] at hij; omega
          · rw [if_neg q3] at hij; have := o2 (i - 1) (j - 1) (by omega) (by omega) hij; omega
  · intro i hi
    rw [insF_len] at hi
    rw [gd]
    simp only
    by_cases q1 : i < pos
    · rw [if_pos q1, if_pos q1]
      have b := o3 i (by omega)
      have b1 := o1 i (by omega)
      refine ⟨old _ b1 _ b.1, ?_⟩
      rw [ser _ b1]; omega
    · rw [if_neg q1, if_neg q1]
      by_cases q2 : i = pos
      · rw [if_pos q2, if_pos q2]
        refine ⟨newS, ?_⟩
        rw [sern]; omega
      · rw [if_neg q2, if_neg q2]
        have b := o3 (i - 1) (by omega)
        have b1 := o1 (i - 1) (by omega)
        refine ⟨old _ b1 _ b.1, ?_⟩
        rw [ser _ b1]; omega
  · intro i j hij hj
    rw [insF_len] at hj
    rw [gd, gd]
    simp only
    have sr : ∀ k, k < n → vI V' 185 (o k) = vI V 185 (o k) := fun k hk => ser _ (o1 k hk)
    by_cases q1 : i < pos
    · rw [if_pos q1, if_pos q1, sr i (by omega)]
      by_cases q2 : j < pos
      · rw [if_pos q2, if_pos q2, sr j (by omega)]; exact o4 i j hij (by omega)
      · rw [if_neg q2, if_neg q2]
        by_cases q3 : j = pos
        · rw [if_pos q3, if_pos q3, sern]
          have b := (o3 i (by omega)).2
          have c := hlow i q1
          show _ < due ∨ (_ = due ∧ _)
          omega
        · rw [if_neg q3, if_neg q3, sr (j - 1) (by omega)]; exact o4 i (j - 1) (by omega) (by show j - 1 < n; omega)
    · rw [if_neg q1, if_neg q1]
      by_cases q4 : i = pos
      · rw [if_pos q4, if_pos q4, if_neg (show ¬ j < pos by omega), if_neg (show ¬ j = pos by omega)]
        left
        exact hhi (j - 1) (by omega) (by omega)
      · rw [if_neg q4, if_neg q4, if_neg (show ¬ j < pos by omega), if_neg (show ¬ j = pos by omega), if_neg (show ¬ j < pos by omega), if_neg (show ¬ j = pos by omega), sr (i - 1) (by omega), sr (j - 1) (by omega)]
        exact o4 (i - 1) (j - 1) (by omega) (by show j - 1 < n; omega)
  · have f7 : FrV m1 V V7 := (((((((FrV_st (by rfl)).trans (FrV_st (by rfl))).trans (FrV_st (by rfl))).trans (FrV_st (by rfl))).trans (FrV_st (by rfl))).trans (FrV_st (by rfl))).trans (FrV_st (by rfl)))
    intro a i ha
    show (if a = 187 ∧ 460 * n ≤ i ∧ i < 460 * n + l.length then _ else V7 a i) = _
    rw [if_neg (fun q => by rw [q.1] at ha; cases ha)]
    exact f7 a i ha
