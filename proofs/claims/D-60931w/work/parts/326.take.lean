/-- the net and its inbox -/
def m19 : Nat → Bool := fun m => m == 1 || m == 9
/-- Net.take: the first one leaves the row, its bytes come to the inbox -/
theorem e_take {M : MM} {st : Nat → Int} {tm lo : Int} {x : Dg} {fl : List Dg} {fA : Nat} (h : NetRep M st tm lo (x :: fl) fA) :
    ∃ M' d, f_X7_take ((19 : Nat) : Int) M = some (((d : Nat) : Int), M') ∧ NetRep M' st tm lo fl fA ∧ isD M' d ∧ rI M' d 0 = x.1 ∧ rI M' d 1 = x.2.1 ∧ PkC M' 22 x.2.2.2 ∧ FrM m19 M M' ∧ nN M' = nN M ∧ nU M' = nU M := by
  obtain ⟨hS, h1, h2, h3, h4, D, f1, f2, f3, f4, f5, f6⟩ := h
  let n := fl.length
  have hn1 : (x :: fl).length = n + 1 := rfl
  rw [hn1] at f2 f6 h4
  let d := D 0
  have hd : isD M d := (f4 0 (by omega)).2
  have hx : DgC M d x := f6 0 (by omega)
  have hrd : rR M 21 0 = ((d : Nat) : Int) := (f4 0 (by omega)).1
  have hd22 : (22 : Nat) ≠ d + 1 := fun q => by have := hS.2.2.2.2.2.2.1; rw [q, hd.2.2.1] at this; cases this
  obtain ⟨M1, c1, c2, c3⟩ := e_X4_copy hS.2.2.2.2.2.2.2 hx.2.2.2.2 hd22
  -- cells 22 and 23 are none of the others
  have k22 : kd M 22 = (4, 2) := hS.2.2.2.2.2.2.1
  have k23 : kd M 23 = (113, 460) := hS.2.2.2.2.2.2.2.2.2
  have ne : ∀ i, i < fA → ¬ (D i = 22 ∨ D i = 22 + 1) ∧ ¬ (D i + 1 = 22 ∨ D i + 1 = 22 + 1) ∧ ¬ (D i + 2 = 22 ∨ D i + 2 = 22 + 1) := by
    intro i hi
    have hi1 := (f4 i hi).2
    have a1 : D i ≠ 22 := fun q => by have := hi1.1; rw [q, k22] at this; cases this
    have a2 : D i ≠ 23 := fun q => by have := hi1.1; rw [q, k23] at this; cases this
    have a3 : D i + 1 ≠ 22 := fun q => by have := hi1.2.2.1; rw [q, k22] at this; cases this
    have a4 : D i + 2 ≠ 22 := fun q => by have := hi1.2.2.2.2.2; rw [show D i + 1 + 1 = D i + 2 from rfl, q, k22] at this; cases this
    omega
  have s19 : ∀ k, rI M1 19 k = rI M 19 k := fun k => c3.rI (by decide) k
  have hS1 := hS.ex c3
  have dg1 : ∀ i, i < n + 1 → DgC M1 (D i) ((x :: fl).getD i dg0) := fun i hi => by
    have o := ne i (by omega)
    exact (f6 i hi).ex c3 o.1 o.2.1 o.2.2
  let M2 := sI M1 19 2 ((n : Int) + 1 - 1)
  have x2 : Ex (fun q => q = 19) M1 M2 := Ex.st rfl
  have hS2 := hS1.ex x2
  have sz2 : rI M2 19 2 = (n : Int) := by
    show rI (sI M1 19 2 _) 19 2 = _
    rw [rI_sI, if_pos ⟨rfl, rfl⟩, w32_id (by omega) (by omega)]; omega
  have hd19 : ∀ i, i < fA → D i ≠ 19 ∧ D i + 1 ≠ 19 ∧ D i + 2 ≠ 19 := by
    intro i hi
    have hi1 := (f4 i hi).2
    exact ⟨(fun q => by have := hi1.1; rw [q, hS.1] at this; cases this), (fun q => by have := hi1.2.2.1; rw [q, hS.1] at this; cases this), (fun q => by have := hi1.2.2.2.2.2; rw [show D i + 1 + 1 = D i + 2 from rfl, q, hS.1] at this; cases this)⟩
  have hd21 : ∀ i, i < fA → D i ≠ 21 ∧ D i + 1 ≠ 21 := by
    intro i hi
    have hi1 := (f4 i hi).2
    exact ⟨(fun q => by have := hi1.1; rw [q, hS.2.2.2.2.2.1] at this; cases this), (fun q => by have := hi1.2.2.1; rw [q, hS.2.2.2.2.2.1] at this; cases this)⟩
  have dg2 : ∀ i, i < n + 1 → DgC M2 (D i) ((x :: fl).getD i dg0) := fun i hi => by
    have o := hd19 i (by omega)
    exact (dg1 i hi).ex x2 o.1 o.2.1 o.2.2
  have r2 : ∀ i, rR M2 21 i = rR M 21 i := fun i => by rw [x2.rR, c3.rR]
  let R : Nat → Int := fun i => rR M2 21 i
  let G : Nat → Nat → Int := fun k j => if j < k then R (j + 1) else R j
  have hG0 : sRow M2 21 (G 0) = M2 := by
    have : G 0 = R := by
      funext j
      show (if j < 0 then _ else _) = _
      rw [if_neg (by omega)]
    rw [this]; exact sRow_self
  have gR : ∀ k, gfr 7 1 ((19 : Nat) : Int) (sRow M2 21 (G k)) = some ((21 : Nat) : Int) := fun k => by
    have := (NetS_sRow (g := G k) hS2)
    rw [gfr_e (by rw [this.1]), this.2.2.1]
  have gS : ∀ k, gfi 7 2 ((19 : Nat) : Int) (sRow M2 21 (G k)) = some (n : Int) := fun k => by
    have := (NetS_sRow (g := G k) hS2)
    rw [gfi_e (by rw [this.1]), rI_sRow, sz2]
  have k21 : ∀ k, kd (sRow M2 21 (G k)) 21 = (149, 400) := fun k => hS2.2.2.2.2.2.1
  have hwn : w32 (n : Int) = (n : Int) := w32_id (by omega) (by omega)
  have lp := lp_seq (b := fun s : Int × MM => b_X7_take_30 ((19 : Nat) : Int) ((d : Nat) : Int) s.1 s.2) (x := j_X7_take_58 ((19 : Nat) : Int) ((d : Nat) : Int) (sRow M2 21 (G n))) (fun k => (((k : Nat) : Int), sRow M2 21 (G k))) n (fun k hk => by
    have hw := w32_j (j := k) (by omega)
    have hw1 : w32 ((k : Int) + 1) = ((k + 1 : Nat) : Int) := by rw [w32_id (by omega) (by omega)]; omega
    have hrk : rR (sRow M2 21 (G k)) 21 (k + 1) = ((D (k + 1) : Nat) : Int) := by
      rw [rR_sRow, if_pos rfl]
      show (if k + 1 < k then R (k + 1 + 1) else R (k + 1)) = _
      rw [if_neg (by omega)]
      show rR M2 21 (k + 1) = _
      rw [r2]; exact (f4 (k + 1) (by omega)).1
    show b_X7_take_30 _ _ (k : Int) (sRow M2 21 (G k)) = _
    unfold b_X7_take_30
    rw [gS, Option.bind_some, hw, hwn, if_pos (by omega), gR, Option.bind_some, Option.bind_some, lar_e (k21 _) (by decide) (by decide) hw1 (by omega), Option.bind_some, hrk, sar_e (k21 _) (by decide) (by decide) hw (by omega) (by rw [kd_sRow, (dg2 (k + 1) (by omega)).1.1]; rfl), Option.bind_some, sR_sRow]
    have e1 : fup (G k) k ((D (k + 1) : Nat) : Int) = G (k + 1) := by
      funext j
      show (if j = k then _ else (if j < k then R (j + 1) else R j)) = if j < k + 1 then R (j + 1) else R j
      by_cases hj : j = k
      · rw [if_pos hj, if_pos (by omega), hj]
        show _ = rR M2 21 (k + 1)
        rw [r2]; exact (f4 (k + 1) (by omega)).1.symm
      · rw [if_neg hj]
        by_cases hq : j < k
        · rw [if_pos hq, if_pos (by omega)]
        · rw [if_neg hq, if_neg (by omega)]
    rw [e1]; rfl) (by
    show b_X7_take_30 _ _ (n : Int) (sRow M2 21 (G n)) = _
    unfold b_X7_take_30
    rw [gS, Option.bind_some, hwn, if_neg (by omega)]) FU 0 (by omega) (by unfold FU; omega)
  let M3 := sRow M2 21 (fup (G n) n ((d : Nat) : Int))
  have hS3 : NetS M3 := NetS_sRow hS2
  have dgE : ∀ i y, i < fA → DgC M2 (D i) y → DgC M3 (D i) y := by
    intro i y hi hy
    have a1 := hd21 i hi
    exact ⟨isD_sRow hy.1 a1, hy.2.1, hy.2.2.1, hy.2.2.2.1, PkC_sRow hy.2.2.2.2 a1.2⟩
  have isE : ∀ i, i < fA → isD M3 (D i) := fun i hi => isD_sRow (((f4 i hi).2.ex c3).ex x2) (hd21 i hi)
  let sg : Nat → Nat := fun i => if i < n then i + 1 else if i = n then 0 else i
  have sgl : ∀ i, i < fA → sg i < fA := by
    intro i hi
    show (if i < n then i + 1 else if i = n then 0 else i) < fA
    split
    · omega
    · split <;> omega
  have row3 : ∀ i, rR M3 21 i = fup (G n) n ((d : Nat) : Int) i := fun i => by show rR (sRow _ _ _) 21 i = _; rw [rR_sRow, if_pos rfl]
  have d0 := dgE 0 x (by omega) (dg2 0 (by omega))
  refine ⟨M3, d, ?_, ⟨hS3, ?_, ?_, ?_, sz2, fun i => D (sg i), f1, by omega, ?_, ?_, ?_, ?_⟩, d0.1, d0.2.1, d0.2.2.1, ?_, ?_, ?_, ?_⟩
  · unfold f_X7_take
    rw [gfr_e (by rw [hS.1]), hS.2.2.1, Option.bind_some, lar_e hS.2.2.2.2.2.1 (by decide) (by decide) (show w32 0 = ((0 : Nat) : Int) by decide) (by decide), Option.bind_some, hrd, gfr_e (by rw [hS.1]), hS.2.2.2.1, Option.bind_some, gfr_e (by rw [hd.1]), hd.2.1, Option.bind_some, ck_e (by rw [k22]), c1, Option.bind_some, gfi_e (by rw [hS1.1]), Option.bind_some, s19, h4, pfi_e (by rw [hS1.1]), Option.bind_some]
    unfold l_X7_take_30
    have lp := lp
    simp only [hG0] at lp
    have e2 : sI M1 19 2 (((n + 1 : Nat) : Int) - 1) = M2 := by
      show _ = sI M1 19 2 ((n : Int) + 1 - 1)
      congr 1
    rw [e2]
    refine Eq.trans lp ?_
    unfold j_X7_take_58
    rw [gR, Option.bind_some, gS, Option.bind_some, sar_e (k21 _) (by decide) (by decide) hwn (by omega) (by rw [kd_sRow, (dg2 0 (by omega)).1.1]; rfl), Option.bind_some, sR_sRow]
  · intro i hi
    show rI M2 20 i = _
    rw [x2.rI (by decide), c3.rI (by decide)]; exact h1 i hi
  · show rI (sI M1 19 2 ((n : Int) + 1 - 1)) 19 3 = _
    rw [rI_sI, if_neg (by omega), s19]; exact h2
  · show rI (sI M1 19 2 ((n : Int) + 1 - 1)) 19 4 = _
    rw [rI_sI, if_neg (by omega), s19]; exact h3
  · intro i j hi hj hij
    have e := f3 (sg i) (sg j) (sgl i hi) (sgl j hj) hij
    have e : (if i < n then i + 1 else if i = n then 0 else i) = (if j < n then j + 1 else if j = n then 0 else j) := e
    split at e <;> split at e <;> (try split at e) <;> (try split at e) <;> omega
  · intro i hi
    refine ⟨?_, isE (sg i) (sgl i hi)⟩
    rw [row3]
    show (if i = n then ((d : Nat) : Int) else (if i < n then R (i + 1) else R i)) = ((D (if i < n then i + 1 else if i = n then 0 else i) : Nat) : Int)
    by_cases q1 : i = n
    · rw [if_pos q1, if_neg (by omega), if_pos q1]
    · rw [if_neg q1]
      by_cases q2 : i < n
      · rw [if_pos q2, if_pos q2]; show rR M2 21 (i + 1) = _; rw [r2]; exact (f4 (i + 1) (by omega)).1
      · rw [if_neg q2, if_neg q2, if_neg q1]; show rR M2 21 i = _; rw [r2]; exact (f4 i hi).1
  · intro i hi1 hi2
    rw [row3]
    show (if i = n then ((d : Nat) : Int) else (if i < n then R (i + 1) else R i)) = -1
    rw [if_neg (by omega), if_neg (by omega)]
    show rR M2 21 i = _
    rw [r2]; exact f5 i hi1 hi2
  · intro i hi
    have hi : i < n := hi
    show DgC M3 (D (if i < n then i + 1 else if i = n then 0 else i)) (fl.getD i dg0)
    rw [if_pos hi]
    exact dgE (i + 1) _ (by omega) (dg2 (i + 1) (by omega))
  · exact PkC_sRow (c2.ex x2 (by decide) (by decide)) (by decide)
  · have m22 : mo M 22 = 9 := mo_obj k22 (by decide) (by decide)
    have m23 : mo M 23 = 9 := mo_lb1 (a := 22) k23 (Or.inr (Or.inl rfl)) k22 (by decide)
    have a1 : FrM m19 M M1 := FrM_ex c3 (fun q _ hq => by
      rcases hq with e | e
      · rw [e, m22]; rfl
      · rw [e, m23]; rfl)
    have a2 : FrM m19 M1 M2 := FrM_sI (by rw [mo19 hS1]; rfl)
    have a3 : FrM m19 M2 M3 := FrM_sRow (by rw [mo21 hS2]; rfl) (by rw [hS2.2.2.2.2.2.1]; decide)
    exact (a1.trans a2).trans a3
  · show nN M2 = _; rw [x2.nN, c3.nN]
  · show nU M2 = _; rw [x2.nU, c3.nU]
def leL : List Int := [0, 1, 0, 0, 1, 0, 0, 1, 0, 1, 0]
def moL : List Int := [1000, 50, 50, 1000, 500, 3, 10000, 100000, 10000, 8, 2147483647]
/-- whether a setting can be so -/
def okS (w v : Int) : Bool := decide (0 ≤ w) && decide (w ≤ 10) && decide (leL.getD w.toNat 0 ≤ v) && decide (v ≤ moL.getD w.toNat 0)
theorem rng {v lo hi : Int} {X Y : Option Int} (hX : X = some 0) (hY : Y = some 1) : (if v < lo then X else if hi < v then X else Y) = some (b2i (decide (lo ≤ v) && decide (v ≤ hi))) := by
  rw [hX, hY]
  by_cases h1 : lo ≤ v
  · rw [if_neg (by omega), decide_eq_true h1]
    by_cases h2 : v ≤ hi
    · rw [if_neg (by omega), decide_eq_true h2]; rfl
    · rw [if_pos (by omega), decide_eq_false h2]; rfl
  · rw [if_pos (by omega), decide_eq_false h1]; rfl
theorem e_canBe (w v : Int) : f_X7_canBe w v = some (b2i (okS (w32 w) (w32 v))) := by
  have hv := w32_hi v
  have z : ∀ y : Int, (y = 0 ∨ y = 1) → bz y (some y) = some y := fun y h => bz_e h
  unfold f_X7_canBe
  generalize w32 w = t
  generalize hq : w32 v = u at hv
  have r0 : (if u < 0 then j_X7_canBe_75 else if w32 1000 < u then j_X7_canBe_75 else j_X7_canBe_76 1) = some (b2i (decide (0 ≤ u) && decide (u ≤ 1000))) := by rw [show w32 1000 = 1000 by decide]; exact rng (bz_e (Or.inl rfl)) (bz_e (Or.inr rfl))
  have r1 : (if u < w32 1 then j_X7_canBe_92 else if w32 50 < u then j_X7_canBe_92 else j_X7_canBe_93 1) = some (b2i (decide (1 ≤ u) && decide (u ≤ 50))) := by rw [show w32 1 = 1 by decide, show w32 50 = 50 by decide]; exact rng (bz_e (Or.inl rfl)) (bz_e (Or.inr rfl))
  have r2 : (if u < 0 then j_X7_canBe_108 else if w32 50 < u then j_X7_canBe_108 else j_X7_canBe_109 1) = some (b2i (decide (0 ≤ u) && decide (u ≤ 50))) := by rw [show w32 50 = 50 by decide]; exact rng (bz_e (Or.inl rfl)) (bz_e (Or.inr rfl))
  have r4 : (if u < w32 1 then j_X7_canBe_126 else if w32 500 < u then j_X7_canBe_126 else j_X7_canBe_127 1) = some (b2i (decide (1 ≤ u) && decide (u ≤ 500))) := by rw [show w32 1 = 1 by decide, show w32 500 = 500 by decide]; exact rng (bz_e (Or.inl rfl)) (bz_e (Or.inr rfl))
  have r5 : (if u < 0 then j_X7_canBe_141 else if w32 3 < u then j_X7_canBe_141 else j_X7_canBe_142 1) = some (b2i (decide (0 ≤ u) && decide (u ≤ 3))) := by rw [show w32 3 = 3 by decide]; exact rng (bz_e (Or.inl rfl)) (bz_e (Or.inr rfl))
  have r6 : (if u < 0 then j_X7_canBe_158 else if w32 10000 < u then j_X7_canBe_158 else j_X7_canBe_159 1) = some (b2i (decide (0 ≤ u) && decide (u ≤ 10000))) := by rw [show w32 10000 = 10000 by decide]; exact rng (bz_e (Or.inl rfl)) (bz_e (Or.inr rfl))
  have r7 : (if u < w32 1 then j_X7_canBe_175 else if w32 100000 < u then j_X7_canBe_175 else j_X7_canBe_176 1) = some (b2i (decide (1 ≤ u) && decide (u ≤ 100000))) := by rw [show w32 1 = 1 by decide, show w32 100000 = 100000 by decide]; exact rng (bz_e (Or.inl rfl)) (bz_e (Or.inr rfl))
  have r9 : (if u < w32 1 then j_X7_canBe_192 else if w32 8 < u then j_X7_canBe_192 else j_X7_canBe_193 1) = some (b2i (decide (1 ≤ u) && decide (u ≤ 8))) := by rw [show w32 1 = 1 by decide, show w32 8 = 8 by decide]; exact rng (bz_e (Or.inl rfl)) (bz_e (Or.inr rfl))
  have r10 : (if u < 0 then j_X7_canBe_203 0 else j_X7_canBe_203 1) = some (b2i (decide (0 ≤ u) && decide (u ≤ 2147483647))) := by
    rw [decide_eq_true hv]
    by_cases h1 : 0 ≤ u
    · rw [if_neg (by omega), decide_eq_true h1]; exact bz_e (Or.inr rfl)
    · rw [if_pos (by omega), decide_eq_false h1]; exact bz_e (Or.inl rfl)
  rw [r0, r1, r2, r4, r5, r6, r7, r9, r10]
  have : t = 0 ∨ t = 1 ∨ t = 2 ∨ t = 3 ∨ t = 4 ∨ t = 5 ∨ t = 6 ∨ t = 7 ∨ t = 8 ∨ t = 9 ∨ t = 10 ∨ (t < 0 ∨ 10 < t) := by omega
  rcases this with rfl | rfl | rfl | rfl | rfl | rfl | rfl | rfl | rfl | rfl | rfl | ht
  · rfl
  · rfl
  · rfl
  · rfl
  · rfl
  · rfl
  · rfl
  · rfl
  · rfl
  · rfl
  · rfl
  · have hs : okS t u = false := by
      unfold okS
      by_cases h0 : 0 ≤ t
      · rw [decide_eq_false (show ¬ t ≤ 10 by omega), Bool.and_false]; rfl
      · rw [decide_eq_false h0]; rfl
    rw [hs]
    unfold swt
    exact if_neg (fun q => by
      have q2 : t - 0 < 11 := q.2
      omega)
theorem e_set {M : MM} {st : Nat → Int} {tm lo w v : Int} {fl : List Dg} {fA : Nat} (h : NetRep M st tm lo fl fA) (hw : w32 w = w) (hv : w32 v = v) : ∃ M', f_X7_set ((19 : Nat) : Int) w v M = some (b2i (okS w v), M') ∧ NetRep M' (if okS w v = true then fup st w.toNat v else st) tm lo fl fA ∧ Ex (fun q => q = 20) M M' := by
  unfold f_X7_set
  rw [e_canBe, Option.bind_some, w32_b2i, hw, hv]
  cases ho : okS w v with
  | false =>
    refine ⟨M, by rw [if_pos (by decide)]; rfl, ?_, Ex.refl⟩
    rw [if_neg (by decide)]; exact h
  | true =>
    obtain ⟨hS, h1, h2, h3, h4, D, h6⟩ := h
    unfold okS at ho
    simp only [Bool.and_eq_true, decide_eq_true_eq] at ho
    have hwt : w32 w = ((w.toNat : Nat) : Int) := by rw [hw]; omega
    have x : Ex (fun q => q = 20) M (sI M 20 w.toNat v) := Ex.st rfl
    refine ⟨sI M 20 w.toNat v, ?_, ⟨hS.ex x, ?_, by rw [x.rI (by decide)]; exact h2, by rw [x.rI (by decide)]; exact h3, by rw [x.rI (by decide)]; exact h4, D, h6.ex20 x (fun q hq => by rw [hq, hS.2.2.2.2.1]; decide)⟩, x⟩
    · rw [if_neg (by decide), gfr_e (by rw [hS.1]), hS.2.1, Option.bind_some, sai_e hS.2.2.2.2.1 (by decide) (by decide) hwt (by omega)]; rfl
    · intro i hi
      rw [if_pos rfl, rI_sI]
      show _ = if i = w.toNat then v else st i
      by_cases q : i = w.toNat
      · rw [if_pos ⟨rfl, q⟩, if_pos q, hv]
      · rw [if_neg (fun z => q z.2), if_neg q]; exact h1 i hi
