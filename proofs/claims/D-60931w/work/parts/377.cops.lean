/-! a table with the pool: contacts are touched, come, go -/
def up2 {α : Type} (P : Nat → Bool → α) (i : Nat) (b : Bool) (v : α) : Nat → Bool → α := fun i' b' => if i' = i ∧ b' = b then v else P i' b'
theorem up2_eq {α : Type} {P : Nat → Bool → α} {i : Nat} {b : Bool} {v : α} : up2 P i b v i b = v := if_pos ⟨rfl, rfl⟩
theorem up2_ne {α : Type} {P : Nat → Bool → α} {i i' : Nat} {b b' : Bool} {v : α} (h : ¬ (i' = i ∧ b' = b)) : up2 P i b v i' b' = P i' b' := if_neg h
def TPool (M : MM) (ow : Nat → Nat × Nat) (t ko m : Nat) (own : Ky) (n bA : Nat) (B : Nat → Nat) (P : Nat → Bool → List Nat) (Cn : Nat → Bool → List (Ky × Int)) (fl : Nat → Int) (a len : Nat) (sp : List Nat) : Prop :=
  UN M ∧ TabS M t ko m n ∧ ky (kC M ko) = own ∧ (kd M ko).2 ≠ 38 ∧ BkS M ow t m bA B ∧ PtS M ow t m bA B P ∧ (∀ i b, i < bA → (P i b).map (ctc M) = Cn i b) ∧ (∀ i, i < bA → rI M (B i) 2 = fl i) ∧ PoolC M a len sp ∧ sp.Nodup ∧ (∀ c, c ∈ sp → ow c = (28, 28)) ∧ t ≠ 28
/-- cells that steps of a table and the pool may write -/
def A5 (M : MM) (ow : Nat → Nat × Nat) (B : Nat → Nat) (bA t a q : Nat) : Prop := A3 B bA t q ∨ q = 28 ∨ q = a ∨ (kd M q = (23, 39) ∧ ((ow q).1 = t ∨ (ow q).1 = 28)) ∨ ∃ c, q = c + 2 ∧ kd M c = (23, 39) ∧ kd M (c + 1) = (3, 38) ∧ kd M (c + 2) = (64, 5) ∧ ((ow c).1 = t ∨ (ow c).1 = 28)
/-- owners stay among themselves -/
def OwG (M : MM) (t : Nat) (ow ow' : Nat → Nat × Nat) : Prop := ∀ z, z < nN M → ((ow z).1 ≠ t → (ow z).1 ≠ 28 → ow' z = ow z) ∧ ((ow z).1 = t ∨ (ow z).1 = 28 ↔ (ow' z).1 = t ∨ (ow' z).1 = 28)
theorem OwG.refl {M : MM} {t : Nat} {ow : Nat → Nat × Nat} : OwG M t ow ow := fun _ _ => ⟨fun _ _ => rfl, Iff.rfl⟩
section COPS
variable {M M1 M2 : MM} {ow ow1 ow2 : Nat → Nat × Nat} {t ko m n bA i j c k kx a len : Nat} {own : Ky} {B : Nat → Nat} {P : Nat → Bool → List Nat} {Cn : Nat → Bool → List (Ky × Int)} {fl : Nat → Int} {sp : List Nat} {b : Bool} {ad : Int}
theorem TPool.row (h : TPool M ow t ko m own n bA B P Cn fl a len sp) (hi : i < bA) : RowC M (rwA B i b) m (P i b) ∧ (P i b).Nodup ∧ (∀ c, c ∈ P i b → ow c = (t, rwA B i b)) ∧ (P i b).length = (Cn i b).length ∧ ∀ k, k < (P i b).length → ctc M ((P i b).getD k 0) = (Cn i b).getD k ((0, 0, 0, 0, 0), 0) := by
  obtain ⟨hu, hS, hO, hk, hB, hP, hC, hF, hL, hN, hW, ht⟩ := h
  obtain ⟨p1, p2, p3⟩ := hP i b hi
  refine ⟨p1, p2, p3, by rw [← hC i b hi, List.length_map], fun k hk => ?_⟩
  rw [← hC i b hi]
  have e : (P i b).getD k 0 = (P i b)[k] := by grind
  rw [e]
  grind
/-- pool's cells are no row's -/
theorem pool_rw {r : Nat} (hL : PoolC M a len sp) (hr : isRw M r m) : r ≠ 28 ∧ r + 1 ≠ 28 ∧ r ≠ a ∧ r + 1 ≠ a := by
  refine ⟨fun q => ?_, fun q => ?_, fun q => ?_, fun q => ?_⟩
  · have := hr.1; rw [q, hL.1] at this; cases this
  · have := hL.1; rw [← q, hr.2.2] at this; cases this
  · have := hr.1; rw [q] at this; rcases hL.2.2.1 with z | z <;> (rw [z] at this; cases this)
  · have := hr.2.2; rw [q] at this; rcases hL.2.2.1 with z | z <;> (rw [z] at this; cases this)
/-- a row's pointers change, no contact does -/
theorem tp_row (h : TPool M ow t ko m own n bA B P Cn fl a len sp) (hi : i < bA) {ps : List Nat} (hx : ExC (fun q => q = rwA B i b ∨ q = rwA B i b + 1) M M1) (hr : RowC M1 (rwA B i b) m ps) (hnd : ps.Nodup) (how : ∀ c, c ∈ ps → ow1 c = (t, rwA B i b)) (howo : ∀ z, z ∉ ps → z ∉ P i b → ow1 z = ow z) (hps : ∀ c, c ∈ ps → isCt M c ∧ (c ∈ P i b ∨ ∀ i' b', i' < bA → c ∉ P i' b')) (hsp : ∀ c, c ∈ sp → c ∉ ps) : TPool M1 ow1 t ko m own n bA B (up2 P i b ps) (up2 Cn i b (ps.map (ctc M))) fl a len sp := by
  obtain ⟨hu, hS, hO, hk, hB, hP, hC, hF, hL, hN, hW, ht⟩ := id h
  have rw1 : isRw M (rwA B i b) m := isBk_row (hB.2.1 i hi).2.1
  have hu1 : UN M1 := (ExC.exa hx).2.1 hu
  have kn : ∀ z, (z = rwA B i b ∨ z = rwA B i b + 1) → (kd M z).1 = 22 ∨ (kd M z).1 = 486 ∨ (kd M z).1 = 23 := by
    rintro z (q | q)
    · rw [q, rw1.1]; exact Or.inl rfl
    · rw [q, rw1.2.2]; exact Or.inr (Or.inl rfl)
  obtain ⟨s1, s2⟩ := TabS.exk hx kn hS
  have nk : ∀ z, (kd M z).1 ≠ 22 → (kd M z).1 ≠ 486 → (kd M z).1 ≠ 23 → ¬ (z = rwA B i b ∨ z = rwA B i b + 1) := fun z q1 q2 q3 q => by have := kn z q; omega
  have cts : ∀ c, isCt M c → isCt M1 c ∧ ctc M1 c = ctc M c := fun c hc => by
    have z := ct_ne hc rw1
    exact ⟨hc.exc hx (by omega) (by omega), ctc.exc hx (by omega) (by omega)⟩
  have rapp : ∀ i' b', i' < bA → ¬ (i' = i ∧ b' = b) → ¬ (rwA B i' b' = rwA B i b ∨ rwA B i' b' = rwA B i b + 1) ∧ ¬ (rwA B i' b' + 1 = rwA B i b ∨ rwA B i' b' + 1 = rwA B i b + 1) := by
    intro i' b' hi' hne
    exact ⟨fun q => hne (rw_apart hB hi' hi (by omega)), fun q => hne (rw_apart hB hi' hi (by omega))⟩
  have bks : ∀ j, j < bA → isBk M1 (B j) m := fun j hj => by
    have z := (hB.2.1 j hj).2.1
    have z1 := nk (B j) (by rw [z.1]; decide) (by rw [z.1]; decide) (by rw [z.1]; decide)
    have rr : ∀ b', isRw M1 (rwA B j b') m := fun b' => by
      by_cases q : j = i ∧ b' = b
      · rw [q.1, q.2]; exact hr.1
      · exact isRw.ofkd hx (hx.rR (rapp j b' hj q).1 0) (isBk_row z)
    exact ⟨by rw [hx.kd]; exact z.1, by rw [hx.rR z1]; exact z.2.1, by rw [hx.rR z1]; exact z.2.2.1, rr false, rr true⟩
  have t1k := hS.2.2.2.2.2.2.1
  have n1 := nk (t + 1) (by rw [t1k]; decide) (by rw [t1k]; decide) (by rw [t1k]; decide)
  have ps_no : ∀ c i' b', i' < bA → ¬ (i' = i ∧ b' = b) → c ∈ P i' b' → c ∉ ps ∧ c ∉ P i b := by
    intro c i' b' hi' hne hc
    have o1 := (hP i' b' hi').2.2 c hc
    have nP : c ∉ P i b := fun q => by
      have o2 := (hP i b hi).2.2 c q
      rw [o1] at o2
      have : rwA B i' b' = rwA B i b := congrArg Prod.snd o2
      exact hne (rw_apart hB hi' hi (Or.inl this))
    refine ⟨fun q => ?_, nP⟩
    rcases (hps c q).2 with z | z
    · exact nP z
    · exact z i' b' hi' hc
  have bk_no : ∀ j, j < bA → B j ∉ ps ∧ B j ∉ P i b := fun j hj => by
    have z := (hB.2.1 j hj).2.1.1
    refine ⟨fun q => ?_, fun q => ?_⟩
    · have := (hps _ q).1.1; rw [z] at this; cases this
    · have := ((hP i b hi).1.2.2.2.2.2 _ q).1; rw [z] at this; cases this
  refine ⟨hu1, s1, by rw [s2]; exact hO, by rw [hx.kd]; exact hk, ⟨hB.1, fun j hj => ⟨by rw [hx.rR n1]; exact (hB.2.1 j hj).1, bks j hj, by rw [howo _ (bk_no j hj).1 (bk_no j hj).2]; exact (hB.2.1 j hj).2.2⟩, hB.2.2.1, fun j q1 q2 => by rw [hx.rR n1]; exact hB.2.2.2 j q1 q2⟩, fun i' b' hi' => ?_, fun i' b' hi' => ?_, fun j hj => ?_, ?_, hN, fun c hc => ?_, ht⟩
  · by_cases q : i' = i ∧ b' = b
    · rw [q.1, q.2, up2_eq]; exact ⟨hr, hnd, how⟩
    · rw [up2_ne q]
      obtain ⟨p1, p2, p3⟩ := hP i' b' hi'
      have w := rapp i' b' hi' q
      refine ⟨p1.exc hx w.1 w.2 (fun c hc => by
        have z := ct_ne (p1.2.2.2.2.2 c hc) rw1
        omega), p2, fun c hc => ?_⟩
      have z := ps_no c i' b' hi' q hc
      rw [howo c z.1 z.2]; exact p3 c hc
  · by_cases q : i' = i ∧ b' = b
    · rw [q.1, q.2, up2_eq, up2_eq]
      exact List.map_congr_left (fun c hc => (cts c (hps c hc).1).2)
    · rw [up2_ne q, up2_ne q, ← hC i' b' hi']
      exact List.map_congr_left (fun c hc => (cts c ((hP i' b' hi').1.2.2.2.2.2 c hc)).2)
  · have z := (hB.2.1 j hj).2.1.1
    rw [hx.rI (nk (B j) (by rw [z]; decide) (by rw [z]; decide) (by rw [z]; decide))]
    exact hF j hj
  · have z := pool_rw hL rw1
    exact hL.exa (ExC.exa hx) hu (by omega) (by omega) (fun c hc => by
      have w := ct_ne (hL.2.2.2.2.2.2.2 c hc) rw1
      omega)
  · have o1 := hW c hc
    rw [howo c (hsp c hc) (fun q => by
      have := (hP i b hi).2.2 c q
      rw [o1] at this
      exact ht (congrArg Prod.fst this).symm)]
    exact o1
theorem er_map {α β : Type} {f : α → β} : ∀ (l : List α) (k : Nat), (l.eraseIdx k).map f = (l.map f).eraseIdx k
  | [], _ => rfl
  | _ :: _, 0 => rfl
  | _ :: l, k + 1 => by
    simp only [List.eraseIdx_cons_succ, List.map_cons, er_map l k]
theorem op_touch (h : TPool M ow t ko m own n bA B P Cn fl a len sp) (hi : i < bA) (hk : k < (P i b).length) : ∃ M', f_X22_touch ((rwA B i b : Nat) : Int) (k : Int) M = some M' ∧ TPool M' ow t ko m own n bA B (up2 P i b ((P i b).eraseIdx k ++ [(P i b).getD k 0])) (up2 Cn i b ((Cn i b).eraseIdx k ++ [(Cn i b).getD k ((0, 0, 0, 0, 0), 0)])) fl a len sp ∧ ExC (fun q => q = rwA B i b ∨ q = rwA B i b + 1) M M' := by
  obtain ⟨r1, r2, r3, r4, r5⟩ := h.row (b := b) hi
  obtain ⟨M', a1, a2, a3⟩ := c_touch r1 hk
  have hm : ∀ c, c ∈ (P i b).eraseIdx k ++ [(P i b).getD k 0] ↔ c ∈ P i b := fun c => by
    have p := (List.perm_append_singleton ((P i b).getD k 0) ((P i b).eraseIdx k)).mem_iff (a := c)
    have g := (get_perm (P i b) k hk).mem_iff (a := c)
    have e : (P i b).getD k 0 = (P i b)[k] := by grind
    rw [p, g, e]
  have hnd : ((P i b).eraseIdx k ++ [(P i b).getD k 0]).Nodup := by
    have p := List.perm_append_singleton ((P i b).getD k 0) ((P i b).eraseIdx k)
    have g := get_perm (P i b) k hk
    have e : (P i b).getD k 0 = (P i b)[k] := by grind
    rw [e] at p ⊢
    exact (p.trans g.symm).nodup_iff.mpr r2
  have := tp_row (ow1 := ow) h hi a3 a2 hnd (fun c hc => r3 c ((hm c).mp hc)) (fun z _ _ => rfl) (fun c hc => ⟨r1.2.2.2.2.2 c ((hm c).mp hc), Or.inl ((hm c).mp hc)⟩) (fun c hc q => by
    have o1 := h.2.2.2.2.2.2.2.2.2.2.1 c hc
    have o2 := r3 c ((hm c).mp q)
    rw [o1] at o2
    exact h.2.2.2.2.2.2.2.2.2.2.2 (congrArg Prod.fst o2).symm)
  refine ⟨M', a1, ?_, a3⟩
  have e : ((P i b).eraseIdx k ++ [(P i b).getD k 0]).map (ctc M) = (Cn i b).eraseIdx k ++ [(Cn i b).getD k ((0, 0, 0, 0, 0), 0)] := by
    rw [List.map_append, List.map_cons, List.map_nil, r5 k hk, ← h.2.2.2.2.2.2.1 i b hi, er_map]
  rw [e] at this
  exact this
end COPS
