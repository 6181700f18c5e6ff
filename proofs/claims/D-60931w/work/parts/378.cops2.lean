section COPS2
variable {M M1 M2 : MM} {ow ow1 ow2 : Nat → Nat × Nat} {t ko m n bA i j c k kx a len : Nat} {own : Ky} {B : Nat → Nat} {P : Nat → Bool → List Nat} {Cn : Nat → Bool → List (Ky × Int)} {fl : Nat → Int} {sp : List Nat} {b : Bool} {ad : Int}
/-- cells of a contact that is in no row change, and the pool's -/
theorem tp_ct (h : TPool M ow t ko m own n bA B P Cn fl a len sp) {A : Nat → Prop} (hx : ExA A M M1) (hA : ∀ q, q < nN M → A q → q = 28 ∨ q = a ∨ ∃ c, kd M c = (23, 39) ∧ kd M (c + 1) = (3, 38) ∧ kd M (c + 2) = (64, 5) ∧ (q = c ∨ q = c + 2) ∧ ∀ i' b', i' < bA → c ∉ P i' b') {a' len' : Nat} {sp' : List Nat} (hL' : PoolC M1 a' len' sp') (hN' : sp'.Nodup) (hO1 : ∀ i' b', i' < bA → ∀ z, z ∈ P i' b' → ow1 z = ow z) (hO2 : ∀ j, j < bA → ow1 (B j) = ow (B j)) (hW' : ∀ c, c ∈ sp' → ow1 c = (28, 28)) : TPool M1 ow1 t ko m own n bA B P Cn fl a' len' sp' := by
  obtain ⟨hu, hS, hO, hk, hB, hP, hC, hF, hL, hN, hW, ht⟩ := id h
  obtain ⟨h1, h2, h3, h4, h5, h6, h7, h8, h9⟩ := id hS
  have hu1 : UN M1 := hx.2.1 hu
  obtain ⟨ka, ea, ea2⟩ := pool_k hL
  -- cells by kinds
  have nA : ∀ z, z < nN M → (kd M z).1 ≠ 9 → kd M z ≠ (166, len) → kd M z ≠ (470, len) → (kd M z).1 ≠ 23 → (kd M z).1 ≠ 64 → ¬ A z := fun z hz q1 q2 q3 q4 q5 q => by
    rcases hA z hz q with e | e | ⟨c, k1, k2, k3, e | e, _⟩
    · rw [e, hL.1] at q1; exact q1 rfl
    · rw [e] at q2 q3; rcases hL.2.2.1 with w | w
      · exact q2 w
      · exact q3 w
    · rw [e, k1] at q4; exact q4 rfl
    · rw [e, k3] at q5; exact q5 rfl
  have lk := isK_lt hu h3
  have nko1 : ¬ A (ko + 1) := fun q => by
    rcases hA _ lk q with e | e | ⟨c, k1, k2, k3, e | e, _⟩
    · have := hL.1; rw [← e, h3.2.2] at this; cases this
    · rcases hL.2.2.1 with w | w <;> (rw [← e, h3.2.2] at w; cases w)
    · have := h3.2.2; rw [e, k1] at this; cases this
    · have : ko = c + 1 := by omega
      rw [this, k2] at hk; exact hk rfl
  have k3' : (kd M ko).1 = 3 := h3.1
  have lt1 : t + 1 < nN M := hu.lt (by rw [h7]; decide)
  have ltt : t < nN M := by omega
  have mk1 : ∀ z, z < nN M → (kd M z).1 = 20 ∨ (kd M z).1 = 588 ∨ (kd M z).1 = 21 ∨ (kd M z).1 = 22 ∨ (kd M z).1 = 486 ∨ (kd M z).1 = 3 → ¬ A z := fun z hz q => nA z hz (by omega) (fun e => by rw [e] at q; simp at q) (fun e => by rw [e] at q; simp at q) (by omega) (by omega)
  have cts : ∀ i' b', i' < bA → ∀ z, z ∈ P i' b' → isCt M1 z ∧ ctc M1 z = ctc M z := fun i' b' hi' z hz => by
    have hc := (hP i' b' hi').1.2.2.2.2.2 z hz
    have lc := isCt_lt hu hc
    have k2' : kd M (z + 2) = (64, 5) := hc.2.2.2.2.2
    have n0 : ¬ A z := fun q => by
      rcases hA z (by omega) q with e | e | ⟨c, k1, k2, k3, e | e, hno⟩
      · have := hL.1; rw [← e, hc.1] at this; cases this
      · rcases hL.2.2.1 with w | w <;> (rw [← e, hc.1] at w; cases w)
      · exact hno i' b' hi' (e ▸ hz)
      · have := hc.1; rw [e, k3] at this; cases this
    have n2 : ¬ A (z + 2) := fun q => by
      rcases hA _ lc q with e | e | ⟨c, k1, k2, k3, e | e, hno⟩
      · have := hL.1; rw [← e, k2'] at this; cases this
      · rcases hL.2.2.1 with w | w <;> (rw [← e, k2'] at w; cases w)
      · have := k2'; rw [e, k1] at this; cases this
      · exact hno i' b' hi' (by have : z = c := by omega
                                exact this ▸ hz)
    exact ⟨hc.exa hx hu n0 (mk1 _ (by omega) (by rw [hc.2.2.1]; omega)), ctc.exa hx hu hc n0 n2⟩
  have rwn : ∀ j b', j < bA → ¬ A (rwA B j b') ∧ ¬ A (rwA B j b' + 1) := fun j b' hj => by
    have q : isRw M (rwA B j b') m := isBk_row (hB.2.1 j hj).2.1
    have l := isRw_lt hu q
    exact ⟨mk1 _ (by omega) (by rw [q.1]; omega), mk1 _ l (by rw [q.2.2]; simp)⟩
  have bn : ∀ j, j < bA → B j < nN M ∧ ¬ A (B j) := fun j hj => by
    have z := (hB.2.1 j hj).2.1.1
    have l : B j < nN M := hu.lt (by rw [z]; decide)
    exact ⟨l, mk1 _ l (by rw [z]; omega)⟩
  have hB1 : BkS M1 ow t m bA B := BkS.exa hx hu hS hB (mk1 _ lt1 (by rw [h7]; omega)) (fun j hj k => hx.rR (bn j hj).1 (bn j hj).2 k) (fun j b' hj => (rwn j b' hj).1)
  have ntt : ¬ A t := mk1 t ltt (by omega)
  refine ⟨hu1, ⟨by rw [hx.kd ltt]; exact h1, by rw [hx.rR ltt ntt]; exact h2, hx.isK hu (mk1 _ (by omega) (by omega)) h3, by rw [hx.rI ltt ntt]; exact h4, by rw [hx.rR ltt ntt]; exact h5, by rw [hx.rR ltt ntt]; exact h6, by rw [hx.kd lt1]; exact h7, by rw [hx.rI ltt ntt]; exact h8, h9⟩, by rw [hx.kC lk nko1]; exact hO, by rw [hx.kd (by omega)]; exact hk, ⟨hB1.1, fun j hj => ⟨(hB1.2.1 j hj).1, (hB1.2.1 j hj).2.1, by rw [hO2 j hj]; exact (hB1.2.1 j hj).2.2⟩, hB1.2.2.1, hB1.2.2.2⟩, fun i' b' hi' => ?_, fun i' b' hi' => ?_, fun j hj => by rw [hx.rI (bn j hj).1 (bn j hj).2]; exact hF j hj, hL', hN', hW', ht⟩
  · obtain ⟨p1, p2, p3⟩ := hP i' b' hi'
    have w := rwn i' b' hi'
    have l := isRw_lt hu p1.1
    refine ⟨⟨⟨by rw [hx.kd (by omega)]; exact p1.1.1, by rw [hx.rR (by omega) w.1]; exact p1.1.2.1, by rw [hx.kd l]; exact p1.1.2.2⟩, by rw [hx.rI (by omega) w.1]; exact p1.2.1, p1.2.2.1, p1.2.2.2.1, fun k hk => by rw [hx.rR l w.2]; exact p1.2.2.2.2.1 k hk, fun c hc => (cts i' b' hi' c hc).1⟩, p2, fun c hc => by rw [hO1 i' b' hi' c hc]; exact p3 c hc⟩
  · rw [← hC i' b' hi']
    exact List.map_congr_left (fun c hc => (cts i' b' hi' c hc).2)
theorem tp_take (h : TPool M ow t ko m own n bA B P Cn fl a len sp) (hk : isK M kx) (hkx : (kd M kx).2 ≠ 38) (had : w32 ad = ad) : ∃ (c : Nat) (M1 : MM) (sp' : List Nat), f_X9_take 28 (kx : Int) ad M = some ((c : Int), M1) ∧ TPool M1 ow t ko m own n bA B P Cn fl a len sp' ∧ isCt M1 c ∧ ctc M1 c = (ky (kC M kx), ad) ∧ (∀ i' b', i' < bA → c ∉ P i' b') ∧ c ∉ sp' ∧ (∀ z, z ∈ sp' → z ∈ sp) ∧ ((sp = sp' ++ [c] ∧ ow c = (28, 28) ∧ isCt M c ∧ nN M1 = nN M ∧ nU M1 = nU M) ∨ (sp = [] ∧ sp' = [] ∧ c = nN M ∧ nN M1 = nN M + 3 ∧ nU M1 = nU M + 8)) ∧ ExA (fun q => q = 28 ∨ q = c ∨ q = c + 2) M M1 := by
  obtain ⟨hu, hS, hO, hko, hB, hP, hC, hF, hL, hN, hW, ht⟩ := id h
  obtain ⟨c, M1, sp', a1, a2, a3, a4, a5, a6⟩ := c_take hL hu hk had hN
  have hcl : ∀ i' b', i' < bA → ∀ z, z ∈ P i' b' → z + 2 < nN M := fun i' b' hi' z hz => isCt_lt hu ((hP i' b' hi').1.2.2.2.2.2 z hz)
  have hno : ∀ i' b', i' < bA → c ∉ P i' b' := fun i' b' hi' q => by
    rcases a5 with ⟨e, -⟩ | ⟨-, -, e, -⟩
    · have o1 := hW c (by rw [e]; simp)
      have o2 := (hP i' b' hi').2.2 c q
      rw [o1] at o2
      exact ht (congrArg Prod.fst o2).symm
    · have := hcl i' b' hi' c q; omega
  have hsub : ∀ z, z ∈ sp' → z ∈ sp := fun z hz => by
    rcases a5 with ⟨e, -⟩ | ⟨-, e, -⟩
    · rw [e]; exact List.mem_append_left _ hz
    · rw [e] at hz; simp at hz
  have hcs : c ∉ sp' := fun q => by
    rcases a5 with ⟨e, -⟩ | ⟨-, e, -⟩
    · rw [e, List.nodup_append] at hN
      exact hN.2.2 c q c (by simp) rfl
    · rw [e] at q; simp at q
  have hnd : sp'.Nodup := by
    rcases a5 with ⟨e, -⟩ | ⟨-, e, -⟩
    · rw [e, List.nodup_append] at hN; exact hN.1
    · rw [e]; simp
  refine ⟨c, M1, sp', a1, tp_ct h a6 (fun q hq hA => ?_) a4 hnd (fun _ _ _ _ _ => rfl) (fun _ _ => rfl) (fun z hz => hW z (hsub z hz)), a2, a3, hno, hcs, hsub, ?_, a6⟩
  · rcases hA with e | e
    · exact Or.inl e
    · rcases a5 with ⟨e5, -⟩ | ⟨-, -, e5, -⟩
      · have hct := hL.2.2.2.2.2.2.2 c (by rw [e5]; simp)
        exact Or.inr (Or.inr ⟨c, hct.1, hct.2.2.1, hct.2.2.2.2.2, e, hno⟩)
      · omega
  · rcases a5 with ⟨e5, n1, n2⟩ | e5
    · exact Or.inl ⟨e5, hW c (by rw [e5]; simp), hL.2.2.2.2.2.2.2 c (by rw [e5]; simp), n1, n2⟩
    · exact Or.inr e5
theorem tp_give (h : TPool M ow t ko m own n bA B P Cn fl a len sp) (hc : isCt M c) (hno : ∀ i' b', i' < bA → c ∉ P i' b') (hcs : c ∉ sp) (hb : sp.length ≤ 50000) : ∃ (M1 : MM) (a' len' : Nat), f_X9_give 28 (c : Int) M = some M1 ∧ TPool M1 (fup ow c (28, 28)) t ko m own n bA B P Cn fl a' len' (sp ++ [c]) ∧ ((a' = a ∧ len' = len ∧ nN M1 = nN M ∧ nU M1 = nU M) ∨ (sp.length = len ∧ a' = nN M ∧ len' = 2 * len ∧ nN M1 = nN M + 1 ∧ nU M1 = nU M + 2 * len)) ∧ ExA (fun q => q = 28 ∨ q = a) M M1 := by
  obtain ⟨hu, hS, hO, hko, hB, hP, hC, hF, hL, hN, hW, ht⟩ := id h
  obtain ⟨M1, a', len', b1, b2, b3, b4⟩ := c_give hL hu hc hb
  refine ⟨M1, a', len', b1, tp_ct (ow1 := fup ow c (28, 28)) h b4 (fun q hq hA => ?_) b2 ?_ (fun i' b' hi' z hz => fup_ne (fun q => hno i' b' hi' (q ▸ hz))) (fun j hj => fup_ne (fun q => ?_)) (fun z hz => ?_), b3, b4⟩
  · rcases hA with e | e
    · exact Or.inl e
    · exact Or.inr (Or.inl e)
  · rw [List.nodup_append]
    exact ⟨hN, by simp, fun x hx y hy => by simp at hy; rw [hy]; exact fun q => hcs (q ▸ hx)⟩
  · have := (hB.2.1 j hj).2.1.1
    rw [q, hc.1] at this; cases this
  · rcases List.mem_append.mp hz with q | q
    · rw [fup_ne (show z ≠ c from fun e => hcs (e ▸ q))]; exact hW z q
    · simp at q; rw [q, fup_eq]
/-- a contact more in a row -/
theorem op_add (h : TPool M ow t ko m own n bA B P Cn fl a len sp) (hi : i < bA) (hl : (P i b).length < m) (hk : isK M kx) (hkx : (kd M kx).2 ≠ 38) (had : w32 ad = ad) : ∃ (c : Nat) (M1 M2 : MM) (sp' : List Nat), f_X9_take 28 (kx : Int) ad M = some ((c : Int), M1) ∧ (kd M1 (rwA B i b)).1 = 22 ∧ f_X22_add ((rwA B i b : Nat) : Int) (c : Int) M1 = some M2 ∧ TPool M2 (fup ow c (t, rwA B i b)) t ko m own n bA B (up2 P i b (P i b ++ [c])) (up2 Cn i b (Cn i b ++ [(ky (kC M kx), ad)])) fl a len sp' ∧ ((sp = sp' ++ [c] ∧ ow c = (28, 28) ∧ isCt M c ∧ nN M2 = nN M ∧ nU M2 = nU M) ∨ (sp = [] ∧ sp' = [] ∧ c = nN M ∧ nN M2 = nN M + 3 ∧ nU M2 = nU M + 8)) ∧ ExA (fun q => q = 28 ∨ (q = c ∨ q = c + 2) ∨ (q = rwA B i b ∨ q = rwA B i b + 1)) M M2 := by
  obtain ⟨c, M1, sp', a1, a2, a3, a4, a5, a6, a7, a8, a9⟩ := tp_take h hk hkx had
  obtain ⟨r1, r2, r3, r4, r5⟩ := a2.row (b := b) hi
  obtain ⟨M2, b1, b2, b3⟩ := c_add r1 hl a3
  have ni := a5 i b hi
  have hnd : (P i b ++ [c]).Nodup := by
    rw [List.nodup_append]
    exact ⟨r2, by simp, fun x hx y hy => by simp at hy; rw [hy]; exact fun q => ni (q ▸ hx)⟩
  have tp := tp_row (ow1 := fup ow c (t, rwA B i b)) a2 hi b3 b2 hnd (fun z hz => by
    by_cases q : z = c
    · rw [q, fup_eq]
    · rw [fup_ne q]
      rcases List.mem_append.mp hz with w | w
      · exact r3 z w
      · simp at w; exact absurd w q) (fun z hz _ => fup_ne (fun q => hz (by rw [q]; simp))) (fun z hz => by
    rcases List.mem_append.mp hz with w | w
    · exact ⟨r1.2.2.2.2.2 z w, Or.inl w⟩
    · simp at w; rw [w]; exact ⟨a3, Or.inr a5⟩) (fun z hz q => by
    rcases List.mem_append.mp q with w | w
    · have o1 := a2.2.2.2.2.2.2.2.2.2.2.1 z hz
      have o2 := r3 z w
      rw [o1] at o2
      exact h.2.2.2.2.2.2.2.2.2.2.2 (congrArg Prod.fst o2).symm
    · simp at w; exact a6 (w ▸ hz))
  have e : (P i b ++ [c]).map (ctc M1) = Cn i b ++ [(ky (kC M kx), ad)] := by
    rw [List.map_append, a2.2.2.2.2.2.2.1 i b hi, List.map_cons, List.map_nil, a4]
  rw [e] at tp
  refine ⟨c, M1, M2, sp', a1, r1.1.1, b1, tp, ?_, (a9.mono (fun q hq => by omega)).trans ((ExC.exa b3).mono (fun q hq => Or.inr (Or.inr hq)))⟩
  rcases a8 with q | q
  · exact Or.inl ⟨q.1, q.2.1, q.2.2.1, by rw [b3.nN]; exact q.2.2.2.1, by rw [b3.nU]; exact q.2.2.2.2⟩
  · exact Or.inr ⟨q.1, q.2.1, q.2.2.1, by rw [b3.nN]; exact q.2.2.2.1, by rw [b3.nU]; exact q.2.2.2.2⟩
/-- a contact less -/
theorem op_del (h : TPool M ow t ko m own n bA B P Cn fl a len sp) (hi : i < bA) (hk : k < (P i b).length) (hb : sp.length ≤ 50000) : ∃ (c : Nat) (M1 M2 : MM) (a' len' : Nat), f_X22_remove ((rwA B i b : Nat) : Int) (k : Int) M = some ((c : Int), M1) ∧ (kd M1 28).1 = 9 ∧ f_X9_give 28 (c : Int) M1 = some M2 ∧ TPool M2 (fup ow c (28, 28)) t ko m own n bA B (up2 P i b ((P i b).eraseIdx k)) (up2 Cn i b ((Cn i b).eraseIdx k)) fl a' len' (sp ++ [c]) ∧ c = (P i b).getD k 0 ∧ ((a' = a ∧ len' = len ∧ nN M2 = nN M ∧ nU M2 = nU M) ∨ (sp.length = len ∧ a' = nN M ∧ len' = 2 * len ∧ nN M2 = nN M + 1 ∧ nU M2 = nU M + 2 * len)) ∧ ExA (fun q => q = 28 ∨ q = a ∨ (q = rwA B i b ∨ q = rwA B i b + 1)) M M2 := by
  obtain ⟨r1, r2, r3, r4, r5⟩ := h.row (b := b) hi
  obtain ⟨M1, a1, a2, a3⟩ := c_remove r1 hk
  have hcm : (P i b).getD k 0 ∈ P i b := getD_mem hk
  obtain ⟨c, hc⟩ : ∃ c, c = (P i b).getD k 0 := ⟨_, rfl⟩
  have hm : ∀ z, z ∈ (P i b).eraseIdx k → z ∈ P i b := fun z hz => List.mem_of_mem_eraseIdx hz
  have hcn : c ∉ (P i b).eraseIdx k := by
    have g := get_perm (P i b) k hk
    have e : c = (P i b)[k] := by rw [hc]; grind
    rw [← e] at g
    have := g.nodup_iff.mp r2
    exact (List.nodup_cons.mp this).1
  have noSp : ∀ z, z ∈ sp → z ∉ P i b := fun z hz q => by
    have o1 := h.2.2.2.2.2.2.2.2.2.2.1 z hz
    have o2 := r3 z q
    rw [o1] at o2
    exact h.2.2.2.2.2.2.2.2.2.2.2 (congrArg Prod.fst o2).symm
  have tp := tp_row (ow1 := ow) h hi a3 a2 (r2.eraseIdx k) (fun z hz => r3 z (hm z hz)) (fun _ _ _ => rfl) (fun z hz => ⟨r1.2.2.2.2.2 z (hm z hz), Or.inl (hm z hz)⟩) (fun z hz q => noSp z hz (hm z q))
  have e : ((P i b).eraseIdx k).map (ctc M) = (Cn i b).eraseIdx k := by rw [er_map, h.2.2.2.2.2.2.1 i b hi]
  rw [e] at tp
  have hct : isCt M c := r1.2.2.2.2.2 c (by rw [hc]; exact hcm)
  have z1 := ct_ne hct r1.1
  have hct1 : isCt M1 c := hct.exc a3 (by omega) (by omega)
  have hno : ∀ i' b', i' < bA → c ∉ up2 P i b ((P i b).eraseIdx k) i' b' := fun i' b' hi' q => by
    by_cases w : i' = i ∧ b' = b
    · rw [w.1, w.2, up2_eq] at q; exact hcn q
    · rw [up2_ne w] at q
      have o1 := (h.2.2.2.2.2.1 i' b' hi').2.2 c q
      have o2 := r3 c (by rw [hc]; exact hcm)
      rw [o1] at o2
      exact w (rw_apart h.2.2.2.2.1 hi' hi (Or.inl (congrArg Prod.snd o2)))
  obtain ⟨M2, a', len', b1, b2, b3, b4⟩ := tp_give tp hct1 hno (fun q => noSp c q (by rw [hc]; exact hcm)) hb
  refine ⟨c, M1, M2, a', len', by rw [hc]; exact a1, tp.2.2.2.2.2.2.2.2.1.1, b1, b2, hc, ?_, ((ExC.exa a3).mono (fun q hq => Or.inr (Or.inr hq))).trans ?_⟩
  · rw [a3.nN, a3.nU] at b3; exact b3
  · refine b4.mono (fun q hq => ?_)
    rcases hq with e | e
    · exact Or.inl e
    · exact Or.inr (Or.inl e)
/-- a contact goes from a row to another one -/
theorem op_move (h : TPool M ow t ko m own n bA B P Cn fl a len sp) {i2 : Nat} {b2 : Bool} (hi : i < bA) (hi2 : i2 < bA) (hne : ¬ (i2 = i ∧ b2 = b)) (hk : k < (P i b).length) (hl : (P i2 b2).length < m) : ∃ (c : Nat) (M1 M2 : MM), f_X22_remove ((rwA B i b : Nat) : Int) (k : Int) M = some ((c : Int), M1) ∧ (kd M1 (rwA B i2 b2)).1 = 22 ∧ f_X22_add ((rwA B i2 b2 : Nat) : Int) (c : Int) M1 = some M2 ∧ TPool M2 (fup ow c (t, rwA B i2 b2)) t ko m own n bA B (up2 (up2 P i b ((P i b).eraseIdx k)) i2 b2 (P i2 b2 ++ [c])) (up2 (up2 Cn i b ((Cn i b).eraseIdx k)) i2 b2 (Cn i2 b2 ++ [(Cn i b).getD k ((0, 0, 0, 0, 0), 0)])) fl a len sp ∧ c = (P i b).getD k 0 ∧ nN M2 = nN M ∧ nU M2 = nU M ∧ ExC (fun q => (q = rwA B i b ∨ q = rwA B i b + 1) ∨ (q = rwA B i2 b2 ∨ q = rwA B i2 b2 + 1)) M M2 := by
  obtain ⟨r1, r2, r3, r4, r5⟩ := h.row (b := b) hi
  obtain ⟨M1, a1, a2, a3⟩ := c_remove r1 hk
  have hcm : (P i b).getD k 0 ∈ P i b := getD_mem hk
  obtain ⟨c, hc⟩ : ∃ c, c = (P i b).getD k 0 := ⟨_, rfl⟩
  have hm : ∀ z, z ∈ (P i b).eraseIdx k → z ∈ P i b := fun z hz => List.mem_of_mem_eraseIdx hz
  have hcn : c ∉ (P i b).eraseIdx k := by
    have g := get_perm (P i b) k hk
    have e : c = (P i b)[k] := by rw [hc]; grind
    rw [← e] at g
    have := g.nodup_iff.mp r2
    exact (List.nodup_cons.mp this).1
  have noSp : ∀ z, z ∈ sp → z ∉ P i b := fun z hz q => by
    have o1 := h.2.2.2.2.2.2.2.2.2.2.1 z hz
    have o2 := r3 z q
    rw [o1] at o2
    exact h.2.2.2.2.2.2.2.2.2.2.2 (congrArg Prod.fst o2).symm
  have tp := tp_row (ow1 := ow) h hi a3 a2 (r2.eraseIdx k) (fun z hz => r3 z (hm z hz)) (fun _ _ _ => rfl) (fun z hz => ⟨r1.2.2.2.2.2 z (hm z hz), Or.inl (hm z hz)⟩) (fun z hz q => noSp z hz (hm z q))
  have e : ((P i b).eraseIdx k).map (ctc M) = (Cn i b).eraseIdx k := by rw [er_map, h.2.2.2.2.2.2.1 i b hi]
  rw [e] at tp
  have hct : isCt M c := r1.2.2.2.2.2 c (by rw [hc]; exact hcm)
  have z1 := ct_ne hct r1.1
  have hct1 : isCt M1 c := hct.exc a3 (by omega) (by omega)
  have hcc1 : ctc M1 c = ctc M c := ctc.exc a3 (by omega) (by omega)
  have hno : ∀ i' b', i' < bA → c ∉ up2 P i b ((P i b).eraseIdx k) i' b' := fun i' b' hi' q => by
    by_cases w : i' = i ∧ b' = b
    · rw [w.1, w.2, up2_eq] at q; exact hcn q
    · rw [up2_ne w] at q
      have o1 := (h.2.2.2.2.2.1 i' b' hi').2.2 c q
      have o2 := r3 c (by rw [hc]; exact hcm)
      rw [o1] at o2
      exact w (rw_apart h.2.2.2.2.1 hi' hi (Or.inl (congrArg Prod.snd o2)))
  obtain ⟨q1, q2, q3, q4, q5⟩ := tp.row (b := b2) hi2
  rw [up2_ne hne] at q1 q2 q3 q4 q5
  obtain ⟨M2, d1, d2, d3⟩ := c_add q1 hl hct1
  have ni : c ∉ P i2 b2 := by have := hno i2 b2 hi2; rw [up2_ne hne] at this; exact this
  have hnd : (P i2 b2 ++ [c]).Nodup := by
    rw [List.nodup_append]
    exact ⟨q2, by simp, fun x hx y hy => by simp at hy; rw [hy]; exact fun q => ni (q ▸ hx)⟩
  have tp2 := tp_row (ow1 := fup ow c (t, rwA B i2 b2)) tp hi2 d3 d2 hnd (fun z hz => by
    by_cases q : z = c
    · rw [q, fup_eq]
    · rw [fup_ne q]
      rcases List.mem_append.mp hz with w | w
      · exact q3 z w
      · simp at w; exact absurd w q) (fun z hz _ => fup_ne (fun q => hz (by rw [q]; simp))) (fun z hz => by
    rcases List.mem_append.mp hz with w | w
    · exact ⟨q1.2.2.2.2.2 z w, Or.inl (by rw [up2_ne hne]; exact w)⟩
    · simp at w; rw [w]; exact ⟨hct1, Or.inr hno⟩) (fun z hz q => by
    rcases List.mem_append.mp q with w | w
    · have o1 := tp.2.2.2.2.2.2.2.2.2.2.1 z hz
      have o2 := q3 z w
      rw [o1] at o2
      exact h.2.2.2.2.2.2.2.2.2.2.2 (congrArg Prod.fst o2).symm
    · simp at w
      exact noSp z hz (by rw [w, hc]; exact hcm))
  have e2 : (P i2 b2 ++ [c]).map (ctc M1) = Cn i2 b2 ++ [(Cn i b).getD k ((0, 0, 0, 0, 0), 0)] := by
    have := tp.2.2.2.2.2.2.1 i2 b2 hi2
    rw [up2_ne hne, up2_ne hne] at this
    rw [List.map_append, this, List.map_cons, List.map_nil, hcc1, hc, r5 k hk]
  rw [e2] at tp2
  exact ⟨c, M1, M2, by rw [hc]; exact a1, q1.1.1, d1, tp2, hc, by rw [d3.nN, a3.nN], by rw [d3.nU, a3.nU], (a3.mono (fun q hq => Or.inl hq)).trans (d3.mono (fun q hq => Or.inr hq))⟩
end COPS2
