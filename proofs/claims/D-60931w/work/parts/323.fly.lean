/-- the references of one array, all at once -/
def sRow (M : MM) (r : Nat) (g : Nat → Int) : MM := (M.1, fun b j => if b = r then g j else M.2.1 b j, M.2.2)
theorem sRow_self {M : MM} {r : Nat} : sRow M r (fun i => rR M r i) = M := by
  unfold sRow rR
  congr 2
  funext b j
  split
  · next h => rw [h]
  · rfl
theorem sR_sRow {M : MM} {r k : Nat} {g : Nat → Int} {v : Int} : sR (sRow M r g) r k v = sRow M r (fup g k v) := by
  unfold sR sRow fup st2
  congr 2
  funext b j
  by_cases hb : b = r
  · by_cases hj : j = k
    · simp [hb, hj]
    · simp [hb, hj]
  · simp [hb]
theorem rR_sRow {M : MM} {r b j : Nat} {g : Nat → Int} : rR (sRow M r g) b j = if b = r then g j else rR M b j := rfl
theorem rI_sRow {M : MM} {r b j : Nat} {g : Nat → Int} : rI (sRow M r g) b j = rI M b j := rfl
theorem rU_sRow {M : MM} {r b j : Nat} {g : Nat → Int} : rU (sRow M r g) b j = rU M b j := rfl
theorem kd_sRow {M : MM} {r b : Nat} {g : Nat → Int} : kd (sRow M r g) b = kd M b := rfl
theorem FrM_sRow {S : Nat → Bool} {M : MM} {r : Nat} {g : Nat → Int} (h : S (mo M r) = true) (hk : 64 ≤ (kd M r).1) : FrM S M (sRow M r g) := by
  have hf : ∀ k, finR (kd M r).1 k = false := by
    intro k
    have hl : finT.length ≤ (kd M r).1 := by show 32 ≤ _; omega
    unfold finR
    rw [List.getD_eq_getElem?_getD (l := finT), List.getElem?_eq_none hl]
    rfl
  refine ⟨Nat.le_refl _, id, fun _ _ => rfl, fun b j hb hj => ?_, fun b hb hs => ⟨fun _ => rfl, fun i => ?_⟩⟩
  · rw [rR_sRow]
    split
    · next q => rw [q, hf] at hj; cases hj
    · rfl
  · show (if b = r then _ else _) = _
    rw [if_neg (fun q => by rw [q, h] at hs; cases hs)]
theorem isP_sRow {M : MM} {r a : Nat} {g : Nat → Int} (h : isP M a) (hr : a ≠ r) : isP (sRow M r g) a := ⟨h.1, by rw [rR_sRow, if_neg hr]; exact h.2.1, h.2.2⟩
theorem isD_sRow {M : MM} {r a : Nat} {g : Nat → Int} (h : isD M a) (hr : a ≠ r ∧ a + 1 ≠ r) : isD (sRow M r g) a := ⟨h.1, by rw [rR_sRow, if_neg hr.1]; exact h.2.1, h.2.2.1, isP_sRow h.2.2.2 hr.2⟩
theorem PkC_sRow {M : MM} {r a : Nat} {g : Nat → Int} {l : List Int} (h : PkC M a l) (hr : a ≠ r) : PkC (sRow M r g) a l := ⟨isP_sRow h.1 hr, h.2.1, h.2.2.1, h.2.2.2⟩
theorem NetS_sRow {M : MM} {g : Nat → Int} (h : NetS M) : NetS (sRow M 21 g) := ⟨h.1, h.2.1, h.2.2.1, h.2.2.2.1, h.2.2.2.2.1, h.2.2.2.2.2.1, h.2.2.2.2.2.2.1, isP_sRow h.2.2.2.2.2.2.2 (by decide)⟩
/-- how far a datagram goes ahead in the row -/
def insP (fl : List Dg) (due : Int) : Nat → Nat
  | 0 => 0
  | k + 1 => if due < (fl.getD k dg0).2.2.1 then insP fl due k else k + 1
theorem insP_le (fl : List Dg) (due : Int) : ∀ k, insP fl due k ≤ k
  | 0 => Nat.le_refl 0
  | k + 1 => by
    unfold insP
    split
    · have := insP_le fl due k; omega
    · exact Nat.le_refl _
def insF (fl : List Dg) (x : Dg) : List Dg := fl.take (insP fl x.2.2.1 fl.length) ++ x :: fl.drop (insP fl x.2.2.1 fl.length)
theorem getD_ins {α : Type} {l : List α} {x d : α} {p i : Nat} (hp : p ≤ l.length) : (l.take p ++ x :: l.drop p).getD i d = if i < p then l.getD i d else if i = p then x else l.getD (i - 1) d := by
  simp only [List.getD_eq_getElem?_getD]
  have hl : (l.take p).length = p := by rw [List.length_take]; omega
  split
  · next h => rw [List.getElem?_append_left (by omega), List.getElem?_take_of_lt h]
  · next h =>
    rw [List.getElem?_append_right (by omega), hl]
    split
    · next h2 => rw [h2, Nat.sub_self]; rfl
    · next h2 =>
      rw [show i - p = (i - p - 1) + 1 by omega, List.getElem?_cons_succ, List.getElem?_drop, show p + (i - p - 1) = i - 1 by omega]
theorem insF_len (fl : List Dg) (x : Dg) : (insF fl x).length = fl.length + 1 := by
  have := insP_le fl x.2.2.1 fl.length
  unfold insF
  rw [List.length_append, List.length_cons, List.length_take, List.length_drop]
  omega
theorem e_fly28 {M : MM} {st : Nat → Int} {tm lo from_ to_ due : Int} {fl : List Dg} {fA p : Nat} {l : List Int} (h : NetRep M st tm lo fl fA) (hlt : fl.length < fA) (hp : PkC M p l) (hp28 : (kd M p).2 ≠ 28) (hw : w32 from_ = from_ ∧ w32 to_ = to_ ∧ w32 due = due) :
    ∃ M', j_X7_fly_28 ((19 : Nat) : Int) from_ to_ due (p : Int) M = some M' ∧ NetRep M' st tm lo (insF fl (from_, to_, due, l)) fA ∧ FrM m1 M M' ∧ nN M' = nN M ∧ nU M' = nU M := by
  obtain ⟨hS, h1, h2, h3, h4, D, f1, f2, f3, f4, f5, f6⟩ := h
  let n := fl.length
  let d := D n
  have hd : isD M d := (f4 n hlt).2
  have hrd : rR M 21 n = ((d : Nat) : Int) := (f4 n hlt).1
  -- numbers of the datagram
  let M3 := sI (sI (sI M d 0 from_) d 1 to_) d 2 due
  have x3 : Ex (fun q => q = d) M M3 := by
    have r : Ex (fun q => q = d) M M := Ex.refl
    exact ((r.trans (Ex.st rfl)).trans (Ex.st rfl)).trans (Ex.st rfl)
  have hd3 : isD M3 d := hd.ex x3
  have hpd : p ≠ d + 1 := fun q => by rw [q, hd.2.2.1] at hp28; exact hp28 rfl
  have hkp : (kd M p).1 = 4 := hp.1.1
  have hkp1 : kd M (p + 1) = (113, 460) := hp.1.2.2
  have hp3 : PkC M3 p l := hp.ex x3 (fun q => by rw [q, hd.1] at hkp; cases hkp) (fun q => by rw [q, hd.1] at hkp1; cases hkp1)
  obtain ⟨M4, c1, c2, c3⟩ := e_X4_copy hd3.2.2.2 hp3 (Ne.symm hpd)
  have x4 : Ex (fun q => q = d ∨ q = d + 1 ∨ q = d + 2) M M4 := (x3.mono (fun q h => Or.inl h)).trans (c3.mono (fun q h => Or.inr h))
  have hdS : ∀ q, (q = 19 ∨ q = 20 ∨ q = 21) → ¬ (q = d ∨ q = d + 1 ∨ q = d + 2) := by
    intro q hq hz
    have hk : (kd M q).1 ≠ 25 ∧ (kd M q).1 ≠ 4 ∧ (kd M q).1 ≠ 113 := by
      rcases hq with e | e | e
      · rw [e, hS.1]; decide
      · rw [e, hS.2.2.2.2.1]; decide
      · rw [e, hS.2.2.2.2.2.1]; decide
    have := isD_ne hd hk
    omega
  have hS4 := hS.ex x4
  have r4 : ∀ i, rR M4 21 i = rR M 21 i := fun i => x4.rR 21 i
  have sz4 : rI M4 19 2 = (n : Int) := by rw [x4.rI (hdS 19 (by omega))]; exact h4
  -- other datagrams are as they were
  have oth : ∀ i, i < fA → i ≠ n → ¬ (D i = d ∨ D i = d + 1 ∨ D i = d + 2) ∧ ¬ (D i + 1 = d ∨ D i + 1 = d + 1 ∨ D i + 1 = d + 2) ∧ ¬ (D i + 2 = d ∨ D i + 2 = d + 1 ∨ D i + 2 = d + 2) := by
    intro i hi hin
    have hne : D i ≠ d := fun q => hin (f3 i n hi hlt q)
    have hi1 := (f4 i hi).2
    have k1 : D i ≠ d + 1 := fun q => by have := hi1.1; rw [q, hd.2.2.1] at this; cases this
    have k2 : D i ≠ d + 2 := fun q => by have := hi1.1; rw [q, show kd M (d + 2) = (113, 460) from hd.2.2.2.2.2] at this; cases this
    have k3 : D i + 1 ≠ d := fun q => by have := hd.1; rw [← q, hi1.2.2.1] at this; cases this
    have k4 : D i + 2 ≠ d := fun q => by have := hd.1; rw [← q, show kd M (D i + 2) = (113, 460) from hi1.2.2.2.2.2] at this; cases this
    omega
  have dg4 : ∀ i, i < n → DgC M4 (D i) (fl.getD i dg0) := fun i hi => by
    have o := oth i (by omega) (by omega)
    exact (f6 i hi).ex x4 o.1 o.2.1 o.2.2
  have nw4 : DgC M4 d (from_, to_, due, l) := by
    have k0 : ∀ k, rI M4 d k = rI M3 d k := fun k => c3.rI (by omega) k
    refine ⟨hd.ex x4, ?_, ?_, ?_, c2⟩
    · rw [k0]; show rI (sI (sI (sI M d 0 from_) d 1 to_) d 2 due) d 0 = _
      rw [rI_sI, if_neg (by omega), rI_sI, if_neg (by omega), rI_sI, if_pos ⟨rfl, rfl⟩]; exact hw.1
    · rw [k0]; show rI (sI (sI (sI M d 0 from_) d 1 to_) d 2 due) d 1 = _
      rw [rI_sI, if_neg (by omega), rI_sI, if_pos ⟨rfl, rfl⟩]; exact hw.2.1
    · rw [k0]; show rI (sI (sI (sI M d 0 from_) d 1 to_) d 2 due) d 2 = _
      rw [rI_sI, if_pos ⟨rfl, rfl⟩]; exact hw.2.2
  -- the loop
  let R : Nat → Int := fun i => rR M4 21 i
  let G : Nat → Nat → Int := fun k j => if k < j ∧ j ≤ n then R (j - 1) else R j
  have hG0 : sRow M4 21 (G n) = M4 := by
    have : G n = R := by
      funext j
      show (if n < j ∧ j ≤ n then _ else _) = _
      rw [if_neg (by omega)]
    rw [this]; exact sRow_self
  have gR : ∀ k, gfr 7 1 ((19 : Nat) : Int) (sRow M4 21 (G k)) = some ((21 : Nat) : Int) := fun k => by
    have := (NetS_sRow (g := G k) hS4)
    rw [gfr_e (by rw [this.1]), this.2.2.1]
  have k21 : ∀ k, kd (sRow M4 21 (G k)) 21 = (149, 400) := fun k => hS4.2.2.2.2.2.1
  have loop : ∀ k fuel, k ≤ n → k < fuel → lpN (fun s : Int × MM => b_X7_fly_73 ((19 : Nat) : Int) due ((d : Nat) : Int) s.1 s.2) fuel ((k : Int), sRow M4 21 (G k)) = j_X7_fly_116 ((19 : Nat) : Int) ((d : Nat) : Int) ((insP fl due k : Nat) : Int) (sRow M4 21 (G (insP fl due k))) := by
    intro k
    induction k with
    | zero =>
      intro fuel _ hf
      refine lpN_end hf ?_
      show b_X7_fly_73 _ _ _ ((0 : Nat) : Int) _ = _
      unfold b_X7_fly_73
      rw [if_neg (by decide)]
      rfl
    | succ k ih =>
      intro fuel hk hf
      obtain ⟨m, rfl⟩ : ∃ m, fuel = m + 1 := ⟨fuel - 1, by omega⟩
      have hw1 : w32 ((k + 1 : Nat) : Int) = ((k + 1 : Nat) : Int) := w32_id (by omega) (by omega)
      have hw2 : w32 (((k + 1 : Nat) : Int) - 1) = ((k : Nat) : Int) := by rw [w32_id (by omega) (by omega)]; omega
      have hDk : isD M4 (D k) := (dg4 k (by omega)).1
      have hrk : rR (sRow M4 21 (G (k + 1))) 21 k = ((D k : Nat) : Int) := by
        rw [rR_sRow, if_pos rfl]
        show (if k + 1 < k ∧ k ≤ n then R (k - 1) else R k) = _
        rw [if_neg (by omega)]
        show rR M4 21 k = _
        rw [r4]; exact (f4 k (by omega)).1
      have hdue : rI (sRow M4 21 (G (k + 1))) (D k) 2 = (fl.getD k dg0).2.2.1 := (dg4 k (by omega)).2.2.2.1
      have hdw : w32 (fl.getD k dg0).2.2.1 = (fl.getD k dg0).2.2.1 := by rw [← hdue]; exact w32_rI
      have body : b_X7_fly_73 ((19 : Nat) : Int) due ((d : Nat) : Int) ((k + 1 : Nat) : Int) (sRow M4 21 (G (k + 1))) = if due < (fl.getD k dg0).2.2.1 then some (.inl ((k : Int), sRow M4 21 (G k))) else xit (j_X7_fly_116 ((19 : Nat) : Int) ((d : Nat) : Int) ((k + 1 : Nat) : Int) (sRow M4 21 (G (k + 1)))) := by
        unfold b_X7_fly_73
        rw [hw1, if_pos (by omega), gR, Option.bind_some, lar_e (k21 _) (by decide) (by decide) hw2 (by omega), Option.bind_some, hrk, gfi_e (by rw [kd_sRow, hDk.1]), Option.bind_some, hdue, hdw, hw.2.2]
        by_cases hc : due < (fl.getD k dg0).2.2.1
        · rw [if_pos hc, if_pos hc, Option.bind_some, Option.bind_some, lar_e (k21 _) (by decide) (by decide) hw2 (by omega), Option.bind_some, hrk, sar_e (k21 _) (by decide) (by decide) hw1 (by omega) (by rw [kd_sRow, hDk.1]; rfl), Option.bind_some, sR_sRow]
          have e1 : fup (G (k + 1)) (k + 1) ((D k : Nat) : Int) = G k := by
            funext j
            show (if j = k + 1 then _ else (if k + 1 < j ∧ j ≤ n then R (j - 1) else R j)) = if k < j ∧ j ≤ n then R (j - 1) else R j
            by_cases hj : j = k + 1
            · rw [if_pos hj, if_pos (by omega), hj]
              show _ = rR M4 21 (k + 1 - 1)
              rw [show k + 1 - 1 = k from rfl, r4]; exact (f4 k (by omega)).1.symm
            · rw [if_neg hj]
              by_cases hq : k + 1 < j ∧ j ≤ n
              · rw [if_pos hq, if_pos (by omega)]
              · rw [if_neg hq, if_neg (by omega)]
          rw [e1]
          have e2 : ((k + 1 : Nat) : Int) + (-1) = (k : Int) := by omega
          rw [e2]; rfl
        · rw [if_neg hc, if_neg hc]
      unfold insP
      by_cases hc : due < (fl.getD k dg0).2.2.1
      · rw [if_pos hc] at body ⊢
        refine Eq.trans (lpN_cnt (s := (((k + 1 : Nat) : Int), sRow M4 21 (G (k + 1)))) body) ?_
        exact ih m (by omega) (by omega)
      · rw [if_neg hc] at body ⊢
        exact lpN_xit (s := (((k + 1 : Nat) : Int), sRow M4 21 (G (k + 1)))) body
  have hpos := insP_le fl due n
  generalize hpo : insP fl due n = pos at hpos
  -- the end
  let M5 := sRow M4 21 (fup (G pos) pos ((d : Nat) : Int))
  let M6 := sI M5 19 2 ((n : Int) + 1)
  have hS5 : NetS M5 := NetS_sRow hS4
  have x6 : Ex (fun q => q = 19) M5 M6 := Ex.st rfl
  have hd21 : ∀ i, i < fA → D i ≠ 21 ∧ D i + 1 ≠ 21 := by
    intro i hi
    have hi1 := (f4 i hi).2
    exact ⟨(fun q => by have := hi1.1; rw [q, hS.2.2.2.2.2.1] at this; cases this), (fun q => by have := hi1.2.2.1; rw [q, hS.2.2.2.2.2.1] at this; cases this)⟩
  have hd19 : ∀ i, i < fA → D i ≠ 19 ∧ D i + 1 ≠ 19 ∧ D i + 2 ≠ 19 := by
    intro i hi
    have hi1 := (f4 i hi).2
    exact ⟨(fun q => by have := hi1.1; rw [q, hS.1] at this; cases this), (fun q => by have := hi1.2.2.1; rw [q, hS.1] at this; cases this), (fun q => by have := hi1.2.2.2.2.2; rw [show D i + 1 + 1 = D i + 2 from rfl, q, hS.1] at this; cases this)⟩
  have dgE : ∀ i y, i < fA → DgC M4 (D i) y → DgC M6 (D i) y := by
    intro i y hi hy
    have a1 := hd21 i hi
    have a2 := hd19 i hi
    have : DgC M5 (D i) y := ⟨isD_sRow hy.1 a1, hy.2.1, hy.2.2.1, hy.2.2.2.1, PkC_sRow hy.2.2.2.2 a1.2⟩
    exact this.ex x6 a2.1 a2.2.1 a2.2.2
  have isE : ∀ i, i < fA → isD M6 (D i) := fun i hi => (isD_sRow ((f4 i hi).2.ex x4) (hd21 i hi)).ex x6
  let sg : Nat → Nat := fun i => if i < pos then i else if i = pos then n else if i ≤ n then i - 1 else i
  have sgl : ∀ i, i < fA → sg i < fA := by
    intro i hi
    show (if i < pos then i else if i = pos then n else if i ≤ n then i - 1 else i) < fA
    split
    · omega
    · split
      · omega
      · split <;> omega
  have row6 : ∀ i, rR M6 21 i = fup (G pos) pos ((d : Nat) : Int) i := fun i => by
    rw [x6.rR]; show rR (sRow _ _ _) 21 i = _; rw [rR_sRow, if_pos rfl]
  have rowD : ∀ i, i < fA → rR M6 21 i = ((D (sg i) : Nat) : Int) := by
    intro i hi
    rw [row6]
    show (if i = pos then ((d : Nat) : Int) else (if pos < i ∧ i ≤ n then R (i - 1) else R i)) = ((D (if i < pos then i else if i = pos then n else if i ≤ n then i - 1 else i) : Nat) : Int)
    by_cases q1 : i = pos
    · rw [if_pos q1, if_neg (by omega), if_pos q1]
    · rw [if_neg q1]
      by_cases q2 : i < pos
      · rw [if_pos q2, if_neg (by omega)]; show rR M4 21 i = _; rw [r4]; exact (f4 i hi).1
      · rw [if_neg q2, if_neg q1]
        by_cases q3 : i ≤ n
        · rw [if_pos (by omega), if_pos q3]; show rR M4 21 (i - 1) = _; rw [r4]; exact (f4 (i - 1) (by omega)).1
        · rw [if_neg (by omega), if_neg q3]; show rR M4 21 i = _; rw [r4]; exact (f4 i hi).1
  refine ⟨M6, ?_, ⟨hS5.ex x6, ?_, ?_, ?_, ?_, fun i => D (sg i), f1, ?_, ?_, ?_, ?_, ?_⟩, ?_, ?_, ?_⟩
  · unfold j_X7_fly_28
    have hwn : w32 (n : Int) = (n : Int) := w32_id (by omega) (by omega)
    rw [gfr_e (by rw [hS.1]), hS.2.2.1, Option.bind_some, gfi_e (by rw [hS.1]), Option.bind_some, h4, lar_e hS.2.2.2.2.2.1 (by decide) (by decide) hwn (by omega), Option.bind_some, hrd, pfi_e (by rw [hd.1]), Option.bind_some, pfi_e (by rw [kd_sI, hd.1]), Option.bind_some, pfi_e (by rw [kd_sI, kd_sI, hd.1]), Option.bind_some]
    show ((gfr 25 3 ((d : Nat) : Int) M3).bind fun v4 => ck 4 v4 M3 <| (f_X4_copy v4 (p : Int) M3).bind fun M4 => (gfi 7 2 ((19 : Nat) : Int) M4).bind fun v5 => l_X7_fly_73 ((19 : Nat) : Int) due ((d : Nat) : Int) v5 M4) = _
    rw [gfr_e (by rw [hd3.1]), hd3.2.1, Option.bind_some, ck_e hd3.2.2.2.1, c1, Option.bind_some, gfi_e (by rw [hS4.1]), Option.bind_some, sz4]
    unfold l_X7_fly_73
    have lp := loop n FU (Nat.le_refl n) (by unfold FU; omega)
    rw [hG0, hpo] at lp
    refine Eq.trans lp ?_
    unfold j_X7_fly_116
    have hwp : w32 (pos : Int) = (pos : Int) := w32_id (by omega) (by omega)
    rw [gR, Option.bind_some, sar_e (k21 _) (by decide) (by decide) hwp (by omega) (by rw [kd_sRow, x4.kd, hd.1]; rfl), Option.bind_some, sR_sRow]
    show ((gfi 7 2 ((19 : Nat) : Int) M5).bind fun v2 => (pfi 7 2 ((19 : Nat) : Int) (v2 + 1) M5).bind fun M2 => some M2) = _
    rw [gfi_e (by rw [hS5.1]), Option.bind_some, show rI M5 19 2 = (n : Int) from sz4, pfi_e (by rw [hS5.1])]
    rfl
  · intro i hi
    rw [x6.rI (by decide)]
    show rI M4 20 i = _
    rw [x4.rI (hdS 20 (by omega))]; exact h1 i hi
  · show rI (sI M5 19 2 _) 19 3 = _
    rw [rI_sI, if_neg (by omega)]
    show rI M4 19 3 = _
    rw [x4.rI (hdS 19 (by omega))]; exact h2
  · show rI (sI M5 19 2 _) 19 4 = _
    rw [rI_sI, if_neg (by omega)]
    show rI M4 19 4 = _
    rw [x4.rI (hdS 19 (by omega))]; exact h3
  · show rI (sI M5 19 2 _) 19 2 = _
    rw [rI_sI, if_pos ⟨rfl, rfl⟩, insF_len, w32_id (by omega) (by omega)]
    show (n : Int) + 1 = ((n + 1 : Nat) : Int)
    omega
  · rw [insF_len]; exact hlt
  · intro i j hi hj hij
    have e := f3 (sg i) (sg j) (sgl i hi) (sgl j hj) hij
    have e : (if i < pos then i else if i = pos then n else if i ≤ n then i - 1 else i) = (if j < pos then j else if j = pos then n else if j ≤ n then j - 1 else j) := e
    split at e <;> split at e <;> (try split at e) <;> (try split at e) <;> (try split at e) <;> (try split at e) <;> omega
  · intro i hi
    exact ⟨rowD i hi, isE (sg i) (sgl i hi)⟩
  · intro i hi1 hi2
    rw [row6]
    show (if i = pos then ((d : Nat) : Int) else (if pos < i ∧ i ≤ n then R (i - 1) else R i)) = -1
    rw [if_neg (by omega), if_neg (by omega)]
    show rR M4 21 i = _
    rw [r4]; exact f5 i hi1 hi2
  · intro i hi
    rw [insF_len] at hi
    show DgC M6 (D (if i < pos then i else if i = pos then n else if i ≤ n then i - 1 else i)) ((fl.take (insP fl due fl.length) ++ (from_, to_, due, l) :: fl.drop (insP fl due fl.length)).getD i dg0)
    rw [getD_ins (insP_le fl due fl.length), show insP fl due fl.length = pos from hpo]
    by_cases q2 : i < pos
    · rw [if_pos q2, if_pos q2]; exact dgE i _ (by omega) (dg4 i (by omega))
    · rw [if_neg q2, if_neg q2]
      by_cases q1 : i = pos
      · rw [if_pos q1, if_pos q1]; exact dgE n _ hlt nw4
      · rw [if_neg q1, if_neg q1, if_pos (by omega)]; exact dgE (i - 1) _ (by omega) (dg4 (i - 1) (by omega))
  · have md := mo_isD hd
    have a1 : FrM m1 M M4 := FrM_ex x4 (fun q _ hq => by
      rcases hq with e | e | e
      · rw [e, md.1]; rfl
      · rw [e, md.2.1]; rfl
      · rw [e, md.2.2]; rfl)
    have a2 : FrM m1 M4 M5 := FrM_sRow (by rw [mo21 hS4]; rfl) (by rw [hS4.2.2.2.2.2.1]; decide)
    have a3 : FrM m1 M5 M6 := FrM_sI (by rw [mo19 hS5]; rfl)
    exact (a1.trans a2).trans a3
  · show nN M4 = _; exact x4.nN
  · show nU M4 = _; exact x4.nU
