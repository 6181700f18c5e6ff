/-! one is put into a store -/
theorem gd_get {α : Type} {S : List α} {i : Nat} {d : α} (h : i < S.length) : S.getD i d = S[i] := by rw [List.getD_eq_getElem?_getD, List.getElem?_eq_getElem h]; rfl
theorem putP_set {S : List Post} {x : Post} {n : Nat} (h : okSt S) (hx : okP x) (hn : n < S.length) (hp : pid (S.getD n post0) = pid x) : putP S x = S.set n x := by
  have hz : pmz (S.getD n post0) = pmz x := (pmz_inj (h.2.2 _ (getD_mem hn)) hx).mpr hp
  rw [gd_get hn] at hz hp
  have e1 : (S.set n x).map pmz = S.map pmz := by
    rw [List.map_set, ← hz]
    have := List.set_getElem_self (as := S.map pmz) (i := n) (by simpa using hn)
    rwa [List.getElem_map] at this
  have s1 : SrtM pmz (S.set n x) := by
    have := h.2.1
    unfold SrtM at this ⊢
    rw [← List.pairwise_map (f := pmz) (R := fun a b => a < b)] at this ⊢
    rw [e1]; exact this
  refine SrtM_eq (putP_srt h.2.1 h.2.2 hx) s1 ?_
  refine (insM_perm pmz x _).trans ?_
  refine List.Perm.trans ?_ (set_perm S n x hn).symm
  refine List.Perm.cons x (List.Perm.of_eq ?_)
  rw [er_filter pid S n hn (okSt_nodup h), hp]
def A7 (s A : Nat) (D : Nat → Nat) (q : Nat) : Prop := q = s ∨ q = s + 1 ∨ ∃ i, i < A ∧ (q = D i ∨ q = D i + 2)
def insD (D : Nat → Nat) (n m : Nat) (i : Nat) : Nat := if i < n then D i else if i = n then D m else if i ≤ m then D (i - 1) else D i
section CPUT
variable {M M1 : MM} {s A k o d c n : Nat} {D : Nat → Nat} {S : List Post} {B : Nat → Prop} {w en : Int} {x : Post}
theorem st_ne (hs : StS M s) (hc : isPo M c) : c ≠ s ∧ c ≠ s + 1 ∧ c ≠ s + 2 ∧ c ≠ s + 3 ∧ c + 1 ≠ s ∧ c + 1 ≠ s + 1 ∧ c + 1 ≠ s + 2 ∧ c + 1 ≠ s + 3 ∧ c + 2 ≠ s ∧ c + 2 ≠ s + 1 ∧ c + 2 ≠ s + 2 ∧ c + 2 ≠ s + 3 := by
  obtain ⟨a1, a2, a3, a4, a5, a6, a7, a8⟩ := hs
  obtain ⟨b1, b2, b3, b4, b5, b6⟩ := hc
  refine ⟨fun q => ?_, fun q => ?_, fun q => ?_, fun q => ?_, fun q => ?_, fun q => ?_, fun q => ?_, fun q => ?_, fun q => ?_, fun q => ?_, fun q => ?_, fun q => ?_⟩
  · rw [← q, b1] at a1; cases a1
  · rw [← q, b1] at a3; cases a3
  · rw [← q, b1] at a5; cases a5
  · rw [← q, b1] at a8; cases a8
  · rw [← q, b3] at a1; cases a1
  · rw [← q, b3] at a3; cases a3
  · rw [← q, b3] at a5; cases a5
  · rw [← q, b3] at a8; cases a8
  · rw [← q, b6] at a1; cases a1
  · rw [← q, b6] at a3; cases a3
  · rw [← q, b6] at a5; cases a5
  · have e : c + 1 = s + 2 := by omega
    rw [e, a5] at b3; cases b3
theorem po_ne {c' : Nat} (h : isPo M c) (h' : isPo M c') (hn : c ≠ c') : c ≠ c' + 1 ∧ c ≠ c' + 2 ∧ c + 1 ≠ c' ∧ c + 1 ≠ c' + 2 ∧ c + 2 ≠ c' ∧ c + 2 ≠ c' + 1 := by
  obtain ⟨a1, -, a3, -, -, a6⟩ := h
  obtain ⟨b1, -, b3, -, -, b6⟩ := h'
  refine ⟨fun q => ?_, fun q => ?_, fun q => ?_, fun q => ?_, fun q => ?_, fun q => ?_⟩
  · rw [q, b3] at a1; cases a1
  · rw [q, show kd M (c' + 2) = _ from b6] at a1; cases a1
  · rw [← q, a3] at b1; cases b1
  · rw [q, show kd M (c' + 2) = _ from b6] at a3; cases a3
  · rw [← q, show kd M (c + 2) = _ from a6] at b1; cases b1
  · rw [← q, show kd M (c + 2) = _ from a6] at b3; cases b3
/-- weight and end are written -/
theorem c_put148 (h : StC M s A D S) (hn : n < S.length) : j_X18_put_148 (s : Int) w en (n : Int) M = some (sI (sI M (D n) 3 w) (D n) 4 en) := by
  obtain ⟨a1, a2, a3, a4, a5, a6, a7, a8, a9⟩ := h
  have hc := (a5 n (by omega)).2
  unfold j_X18_put_148
  rw [gfr_e a1.1, a1.2.1, Option.bind_some, lar_n a1.2.2.1 (by decide) (by omega) (by decide), Option.bind_some, (a5 n (by omega)).1, pfi_e (by rw [hc.1]), Option.bind_some, gfr_e (by rw [kd_sI]; exact a1.1), rR_sI, a1.2.1, Option.bind_some, lar_n (show kd (sI M (D n) 3 w) (s + 1) = (569, 200) from a1.2.2.1) (by decide) (by omega) (by decide), Option.bind_some, rR_sI, (a5 n (by omega)).1, pfi_e (by rw [kd_sI, hc.1]), Option.bind_some]
theorem c_put62 (h : StC M s A D S) (hk : isK M k) (hk2 : kd M k ≠ (3, 32)) (hA : S.length < A) (hn : n ≤ S.length) (ho : o < 32) (hd : d < 16) (hw : 1 ≤ w ∧ w ≤ 15) (he : w32 en = en) (hlo : ∀ i, i < n → pmz (S.getD i post0) < mzk (ky (kC M k)) o d) (hhi : ∀ i, n ≤ i → i < S.length → mzk (ky (kC M k)) o d ≤ pmz (S.getD i post0)) (hno : ∀ y, y ∈ S → pid y ≠ (ky (kC M k), (o : Int), (d : Int))) :
    ∃ M', j_X18_put_62 (s : Int) (k : Int) (o : Int) (d : Int) w en (n : Int) M = some M' ∧ StC M' s A (insD D n S.length) (putP S (ky (kC M k), (o : Int), (d : Int), w, en)) ∧ ExC (A7 s A D) M M' := by
  obtain ⟨a1, a2, a3, a4, a5, a6, a7, a8, a9⟩ := id h
  have hky : kyo (ky (kC M k)) := kyo_ky (kC_ok M k)
  obtain ⟨P, hP⟩ : ∃ P, P = D S.length := ⟨_, rfl⟩
  have hPc : isPo M P := by rw [hP]; exact (a5 _ hA).2
  have rP : rR M (s + 1) S.length = (P : Int) := by rw [hP]; exact (a5 _ hA).1
  obtain ⟨x, hx⟩ : ∃ x : Post, x = (ky (kC M k), (o : Int), (d : Int), w, en) := ⟨_, rfl⟩
  have okx : okP x := by rw [hx]; exact ⟨hky, ⟨Int.natCast_nonneg o, by show (o : Int) < 32; omega⟩, ⟨Int.natCast_nonneg d, by show (d : Int) < 16; omega⟩, hw, he⟩
  have zx : pmz x = mzk (ky (kC M k)) o d := (mzk_pid okx hky ho hd).mpr (by rw [hx]; rfl)
  have hnk : ∀ i, i < A → k ≠ D i ∧ k ≠ D i + 1 ∧ k ≠ D i + 2 := fun i hi => by
    have hc := (a5 i hi).2
    refine ⟨fun q => ?_, fun q => ?_, fun q => ?_⟩
    · have := hk.1; rw [q, hc.1] at this; cases this
    · exact hk2 (by rw [q]; exact hc.2.2.1)
    · have := hk.1; rw [q, show kd M (D i + 2) = (64, 5) from hc.2.2.2.2.2] at this; cases this
  have hnk2 : k ≠ s ∧ k ≠ s + 1 ∧ k + 1 ≠ s ∧ k + 1 ≠ s + 1 := by
    refine ⟨fun q => ?_, fun q => ?_, fun q => ?_, fun q => ?_⟩
    · have := a1.1; rw [← q, hk.1] at this; cases this
    · have := a1.2.2.1; rw [← q] at this; have h2 := hk.1; rw [this] at h2; cases h2
    · have := a1.1; rw [← q, hk.2.2] at this; cases this
    · have := a1.2.2.1; rw [← q, hk.2.2] at this; cases this
  have shift : ∀ m fu W, n + m ≤ S.length → m < fu → ExC (fun q => q = s + 1) M W → (∀ z, z ≤ n + m → z < S.length → rR W (s + 1) z = ((D z : Nat) : Int)) → (∀ z, n + m < z → z ≤ S.length → rR W (s + 1) z = ((D (z - 1) : Nat) : Int)) → (∀ z, S.length < z → rR W (s + 1) z = rR M (s + 1) z) → ∃ W', lpN (fun t : Int × MM => b_X18_put_79 (s : Int) (k : Int) (o : Int) (d : Int) w en (n : Int) (P : Int) t.1 t.2) fu (((n + m : Nat) : Int), W) = j_X18_put_108 (s : Int) (k : Int) (o : Int) (d : Int) w en (n : Int) (P : Int) W' ∧ ExC (fun q => q = s + 1) M W' ∧ (∀ z, z < n → rR W' (s + 1) z = ((D z : Nat) : Int)) ∧ (∀ z, n < z → z ≤ S.length → rR W' (s + 1) z = ((D (z - 1) : Nat) : Int)) ∧ ∀ z, S.length < z → rR W' (s + 1) z = rR M (s + 1) z := by
    intro m
    induction m with
    | zero =>
      intro fu W hm hf hx h1 h2 h3
      obtain ⟨f, rfl⟩ : ∃ f, fu = f + 1 := ⟨fu - 1, by omega⟩
      refine ⟨W, ?_, hx, fun z hz => h1 z (by omega) (by omega), fun z a b => h2 z (by omega) b, h3⟩
      refine lpN_xit (b := fun t : Int × MM => b_X18_put_79 (s : Int) (k : Int) (o : Int) (d : Int) w en (n : Int) (P : Int) t.1 t.2) ?_
      dsimp only
      unfold b_X18_put_79
      rw [show n + 0 = n from rfl, if_neg (Int.lt_irrefl _)]
    | succ m ih =>
      intro fu W hm hf hx h1 h2 h3
      obtain ⟨f, rfl⟩ : ∃ f, fu = f + 1 := ⟨fu - 1, by omega⟩
      have hkW : kd W (s + 1) = (569, 200) := by rw [hx.kd]; exact a1.2.2.1
      have gs : (kd W s).1 = 18 := by rw [hx.kd]; exact a1.1
      have rs : rR W s 0 = ((s + 1 : Nat) : Int) := by rw [hx.rR (by omega)]; exact a1.2.1
      have hr := h1 (n + m) (by omega) (by omega)
      have step : b_X18_put_79 (s : Int) (k : Int) (o : Int) (d : Int) w en (n : Int) (P : Int) ((n + (m + 1) : Nat) : Int) W = some (.inl (((n + m : Nat) : Int), sR W (s + 1) (n + (m + 1)) ((D (n + m) : Nat) : Int))) := by
        unfold b_X18_put_79
        rw [w32_nn (by omega), w32_nn (by omega), if_pos (by omega), gfr_e gs, rs, Option.bind_some, Option.bind_some, show ((n + (m + 1) : Nat) : Int) - 1 = ((n + m : Nat) : Int) by omega, lar_n hkW (by decide) (by omega) (by omega), Option.bind_some, hr, sar_n hkW (by decide) (by omega) (by omega) (by rw [hx.kd, (a5 (n + m) (by omega)).2.1]; rfl), Option.bind_some, show ((n + (m + 1) : Nat) : Int) + (-1) = ((n + m : Nat) : Int) by omega]
        rfl
      rw [lpN_cnt (b := fun t : Int × MM => b_X18_put_79 (s : Int) (k : Int) (o : Int) (d : Int) w en (n : Int) (P : Int) t.1 t.2) (s := (((n + (m + 1) : Nat) : Int), W)) step]
      refine ih f (sR W (s + 1) (n + (m + 1)) ((D (n + m) : Nat) : Int)) (by omega) (by omega) (hx.trans (ExC_sR rfl)) (fun z a b => ?_) (fun z a b => ?_) (fun z a => ?_)
      · rw [rR_ne (by omega)]; exact h1 z (by omega) b
      · by_cases e : z = n + (m + 1)
        · rw [rR_eq e, e, show n + (m + 1) - 1 = n + m by omega]
        · rw [rR_ne (by omega)]; exact h2 z (by omega) b
      · rw [rR_ne (by omega)]; exact h3 z a
  obtain ⟨W, s1, s2', s3, s4, s5⟩ := shift (S.length - n) FU M (by omega) (by unfold FU; omega) ExC.refl (fun z _ b => (a5 z (by omega)).1) (fun z a b => by omega) (fun _ _ => rfl)
  -- the new one's fields
  have neP := st_ne a1 hPc
  have k1 : kd W (s + 1) = (569, 200) := by rw [s2'.kd]; exact a1.2.2.1
  have g1 : (kd W s).1 = 18 := by rw [s2'.kd]; exact a1.1
  obtain ⟨W1, hW1⟩ : ∃ W1, W1 = sI (sR W (s + 1) n (P : Int)) s 1 ((S.length + 1 : Nat) : Int) := ⟨_, rfl⟩
  have fW1 : ExC (fun q => q = s ∨ q = s + 1) M W1 := by rw [hW1]; exact ((s2'.mono (fun q hq => Or.inr hq)).trans (ExC_sR (Or.inr rfl))).trans (ExC_sI (Or.inl rfl))
  have hPW : isK W1 (P + 1) := fW1.isK (by omega) hPc.2.2.2
  have hkW1 : isK W1 k := fW1.isK (by omega) hk
  obtain ⟨W2, b1, b2, b3⟩ := e_X3_set hPW hkW1
  have f2 : ExC (fun q => q = P + 2) W1 W2 := (ExC_ex b3).mono (fun q hq => hq)
  obtain ⟨W3, hW3⟩ : ∃ W3, W3 = sI (sI W2 P 1 (o : Int)) P 2 (d : Int) := ⟨_, rfl⟩
  obtain ⟨W4, hW4⟩ : ∃ W4, W4 = sI (sI W3 P 3 w) P 4 en := ⟨_, rfl⟩
  have f4 : ExC (fun q => q = P ∨ q = P + 2) W1 W4 := by
    rw [hW4, hW3]
    have t1 : ExC (fun q => q = P ∨ q = P + 2) W1 W2 := f2.mono (fun q hq => Or.inr hq)
    exact (((t1.trans (ExC_sI (Or.inl rfl))).trans (ExC_sI (Or.inl rfl))).trans (ExC_sI (Or.inl rfl))).trans (ExC_sI (Or.inl rfl))
  have fA : ExC (fun q => q = s ∨ q = s + 1 ∨ q = P ∨ q = P + 2) M W4 := (fW1.mono (fun q hq => by rcases hq with z | z; exact Or.inl z; exact Or.inr (Or.inl z))).trans (f4.mono (fun q hq => Or.inr (Or.inr hq)))
  have rw4 : ∀ z, rR W4 (s + 1) z = if z = n then (P : Int) else rR W (s + 1) z := fun z => by
    rw [f4.rR (by omega), hW1, rR_sI]
    by_cases e : z = n
    · rw [if_pos e, rR_eq e]
    · rw [if_neg e, rR_ne (by omega)]
  have D' : ∀ i, i < A → rR W4 (s + 1) i = ((insD D n S.length i : Nat) : Int) := fun i hi => by
    rw [rw4]
    unfold insD
    by_cases e1 : i < n
    · rw [if_neg (by omega), if_pos e1]; exact s3 i e1
    · rw [if_neg e1]
      by_cases e2 : i = n
      · rw [if_pos e2, if_pos e2, hP]
      · rw [if_neg e2, if_neg e2]
        by_cases e3 : i ≤ S.length
        · rw [if_pos e3]; exact s4 i (by omega) e3
        · rw [if_neg e3, s5 i (by omega)]; exact (a5 i hi).1
  have inD : ∀ i, i < A → ∃ j, j < A ∧ insD D n S.length i = D j ∧ (i < n → j = i) ∧ (i = n → j = S.length) ∧ (n < i → i ≤ S.length → j = i - 1) ∧ (S.length < i → j = i) := fun i hi => by
    unfold insD
    by_cases e1 : i < n
    · rw [if_pos e1]; exact ⟨i, hi, rfl, fun _ => rfl, fun z => by omega, fun z => by omega, fun z => by omega⟩
    · rw [if_neg e1]
      by_cases e2 : i = n
      · rw [if_pos e2]; exact ⟨S.length, hA, rfl, fun z => by omega, fun _ => rfl, fun z => by omega, fun z => by omega⟩
      · rw [if_neg e2]
        by_cases e3 : i ≤ S.length
        · rw [if_pos e3]; exact ⟨i - 1, by omega, rfl, fun z => by omega, fun z => by omega, fun _ _ => rfl, fun z => by omega⟩
        · rw [if_neg e3]; exact ⟨i, hi, rfl, fun z => by omega, fun z => by omega, fun z z2 => by omega, fun _ => rfl⟩
  have isP4 : ∀ j, j < A → isPo W4 (D j) := fun j hj => by
    have hc := (a5 j hj).2
    have n1 := st_ne a1 hc
    have kk : ∀ z, kd W4 z = kd M z := fun z => fA.kd z
    by_cases e : D j = P
    · rw [e]
      refine ⟨by rw [kk]; exact hPc.1, ?_, by rw [kk]; exact hPc.2.2.1, by rw [kk]; exact hPc.2.2.2.1, ?_, by rw [kk]; exact hPc.2.2.2.2.2⟩
      · rw [hW4, rR_sI, rR_sI, hW3, rR_sI, rR_sI, b3.rR, fW1.rR (by omega)]; exact hPc.2.1
      · rw [f4.rR (by omega), fW1.rR (by omega)]; exact hPc.2.2.2.2.1
    · have n2 := po_ne hc hPc e
      exact ⟨by rw [kk]; exact hc.1, by rw [fA.rR (by omega)]; exact hc.2.1, by rw [kk]; exact hc.2.2.1, fA.isK (by omega) hc.2.2.2⟩
  have co4 : ∀ j, j < A → j ≠ S.length → poc W4 (D j) = poc M (D j) := fun j hj hne => by
    have hc := (a5 j hj).2
    have n1 := st_ne a1 hc
    have e : D j ≠ P := fun q => hne (a6 j S.length hj hA (by rw [← hP]; exact q))
    have n2 := po_ne hc hPc e
    unfold poc
    rw [fA.kC (by omega), fA.rI (by omega), fA.rI (by omega), fA.rI (by omega), fA.rI (by omega)]
  have coP : poc W4 P = x := by
    have e5 : kC W4 (P + 1) = kC W2 (P + 1) := by
      funext i
      rw [hW4, hW3]
      show rI _ (P + 1 + 1) i = rI _ (P + 1 + 1) i
      rw [rI_ne (by omega), rI_ne (by omega), rI_ne (by omega), rI_ne (by omega)]
    have e6 : ky (kC W2 (P + 1)) = ky (kC M k) := by
      rw [ky_eq, ← alleq_kq]
      intro i hi
      rw [b2 i hi]
      exact fW1.rI (by omega) i
    unfold poc
    rw [e5, e6, hx, hW4, hW3, rI_ne (by omega), rI_ne (by omega), rI_ne (by omega), rI_eq rfl, rI_ne (by omega), rI_ne (by omega), rI_eq rfl, rI_ne (by omega), rI_eq rfl, rI_eq rfl, w32_nn (by omega), w32_nn (by omega), he, show w32 w = w from w32_id (by omega) (by omega)]
  have eS : putP S x = S.take n ++ x :: S.drop n := by
    rw [putP_new (fun y hy => by rw [hx]; exact hno y hy)]
    refine (insM_at (d := post0) hn (fun j hj => ?_) (fun j hj hl => ?_)).symm
    · rw [zx]; exact Nat.le_of_lt (hlo j hj)
    · rw [zx]
      refine Nat.lt_of_le_of_ne (hhi j hj hl) (fun q => ?_)
      exact hno _ (getD_mem (d := post0) hl) ((mzk_pid (a8.2.2 _ (getD_mem hl)) hky ho hd).mp q.symm)
  have lenI : (S.take n ++ x :: S.drop n).length = S.length + 1 := by
    rw [List.length_append, List.length_cons, List.length_take, List.length_drop]; omega
  refine ⟨W4, ?_, ⟨⟨?_, ?_, ?_, ?_, ?_, ?_⟩, ?_, ?_, a4, fun i hi => ?_, fun i j hi hj e => ?_, fun i h1 h2 => ?_, ⟨?_, ?_, fun y hy => ?_⟩, fun i hi => ?_⟩, fA.mono (fun q hq => ?_)⟩
  · unfold j_X18_put_62 l_X18_put_79
    rw [gfr_e a1.1, a1.2.1, Option.bind_some, gfi_e a1.1, a2, Option.bind_some, lar_n a1.2.2.1 (by decide) (by omega) (by decide), rP, Option.bind_some, Option.bind_some, show ((S.length : Nat) : Int) = ((n + (S.length - n) : Nat) : Int) by omega]
    refine s1.trans ?_
    have hkP : (kd W P).1 = ecl 9 := by rw [s2'.kd, hPc.1]; rfl
    have eW1 : sI (sR W (s + 1) n (P : Int)) s 1 (rI W s 1 + 1) = W1 := by rw [hW1, s2'.rI (by omega), a2, cadd1]
    unfold j_X18_put_108
    rw [gfr_e g1, s2'.rR (by omega), a1.2.1, Option.bind_some, sar_n k1 (by decide) (by omega) (by decide) hkP, Option.bind_some, gfi_e (by rw [kd_sR]; exact g1), Option.bind_some, rI_sR, pfi_e (by rw [kd_sR]; exact g1), Option.bind_some, eW1, gfr_e (by rw [fW1.kd, hPc.1]), fW1.rR (by omega), hPc.2.1, Option.bind_some, ck_e hPW.1, b1, Option.bind_some, pfi_e (by rw [f2.kd, fW1.kd, hPc.1]), Option.bind_some, pfi_e (by rw [kd_sI, f2.kd, fW1.kd, hPc.1]), Option.bind_some, ← hW3]
    have fW3 : ExC (fun q => q = s ∨ q = s + 1 ∨ q = P ∨ q = P + 2) M W3 := by
      rw [hW3]
      have t1 : ExC (fun q => q = s ∨ q = s + 1 ∨ q = P ∨ q = P + 2) M W1 := fW1.mono (fun q hq => by rcases hq with z | z; exact Or.inl z; exact Or.inr (Or.inl z))
      exact ((t1.trans (f2.mono (fun q hq => Or.inr (Or.inr (Or.inr hq))))).trans (ExC_sI (Or.inr (Or.inr (Or.inl rfl))))).trans (ExC_sI (Or.inr (Or.inr (Or.inl rfl))))
    have r0 : rR W3 s 0 = ((s + 1 : Nat) : Int) := by rw [hW3, rR_sI, rR_sI, b3.rR, hW1, rR_sI, rR_ne (by omega), s2'.rR (by omega)]; exact a1.2.1
    have r1 : rR W3 (s + 1) n = (P : Int) := by rw [hW3, rR_sI, rR_sI, b3.rR, hW1, rR_sI, rR_eq rfl]
    have kP3 : (kd W3 P).1 = 28 := by rw [fW3.kd, hPc.1]
    unfold j_X18_put_148
    rw [gfr_e (by rw [fW3.kd]; exact a1.1), r0, Option.bind_some, lar_n (show kd W3 (s + 1) = (569, 200) by rw [fW3.kd]; exact a1.2.2.1) (by decide) (by omega) (by decide), r1, Option.bind_some, pfi_e kP3, Option.bind_some, gfr_e (by rw [kd_sI, fW3.kd]; exact a1.1), rR_sI, r0, Option.bind_some, lar_n (show kd (sI W3 P 3 w) (s + 1) = (569, 200) by rw [kd_sI, fW3.kd]; exact a1.2.2.1) (by decide) (by omega) (by decide), rR_sI, r1, Option.bind_some, pfi_e (by rw [kd_sI]; exact kP3), Option.bind_some, hW4]
  · rw [fA.kd]; exact a1.1
  · rw [f4.rR (by omega), hW1, rR_sI, rR_ne (by omega), s2'.rR (by omega)]; exact a1.2.1
  · rw [fA.kd]; exact a1.2.2.1
  · rw [f4.rR (by omega), hW1, rR_sI, rR_ne (by omega), s2'.rR (by omega)]; exact a1.2.2.2.1
  · rw [fA.kd]; exact a1.2.2.2.2.1
  · exact fA.isK (by omega) a1.2.2.2.2.2
  · rw [← hx, eS, lenI, f4.rI (by omega), hW1, rI_eq rfl, w32_nn (by omega)]
  · rw [← hx, eS, lenI]; omega
  · refine ⟨D' i hi, ?_⟩
    obtain ⟨j, j1, j2, -⟩ := inD i hi
    rw [j2]; exact isP4 j j1
  · obtain ⟨i', i1, i2, i3, i4, i5, i6⟩ := inD i hi
    obtain ⟨j', j1, j2, j3, j4, j5, j6⟩ := inD j hj
    have := a6 i' j' i1 j1 (by rw [← i2, ← j2]; exact e)
    omega
  · rw [rw4, if_neg (by omega), s5 i (by omega)]; exact a7 i h1 h2
  · rw [← hx, eS, lenI]; omega
  · rw [← hx]; exact putP_srt a8.2.1 a8.2.2 okx
  · rw [← hx] at hy
    rcases putP_mem.mp hy with z | z
    · rw [z]; exact okx
    · exact a8.2.2 y z.1
  · rw [← hx, eS] at hi ⊢
    rw [lenI] at hi
    rw [getD_ins hn]
    obtain ⟨j, j1, j2, j3, j4, j5, j6⟩ := inD i (by omega)
    rw [j2]
    by_cases e1 : i < n
    · rw [if_pos e1, j3 e1, co4 i (by omega) (by omega)]; exact a9 i (by omega)
    · rw [if_neg e1]
      by_cases e2 : i = n
      · rw [if_pos e2, j4 e2, ← hP]; exact coP
      · rw [if_neg e2, j5 (by omega) (by omega), co4 (i - 1) (by omega) (by omega)]; exact a9 (i - 1) (by omega)
  · rcases hq with z | z | z | z
    · exact Or.inl z
    · exact Or.inr (Or.inl z)
    · exact Or.inr (Or.inr ⟨S.length, hA, Or.inl (by rw [z, hP])⟩)
    · exact Or.inr (Or.inr ⟨S.length, hA, Or.inr (by rw [z, hP])⟩)
end CPUT
