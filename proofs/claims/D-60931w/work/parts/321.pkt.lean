/-! packets as lists of bytes -/
def PkC (M : MM) (a : Nat) (l : List Int) : Prop := isP M a ∧ rI M a 1 = (l.length : Int) ∧ l.length ≤ 460 ∧ ∀ i, i < l.length → rU M (a + 1) i = l.getD i 0
/-- the last n bytes of a word, the first first -/
def be (v : Int) : Nat → List Int
  | 0 => []
  | n + 1 => (bush v (8 * (n : Int)) % 256) :: be v n
theorem be_len (v : Int) : ∀ n, (be v n).length = n
  | 0 => rfl
  | n + 1 => by show (be v n).length + 1 = n + 1; rw [be_len v n]
theorem getD_app {l m : List Int} {i : Nat} : (l ++ m).getD i 0 = if i < l.length then l.getD i 0 else m.getD (i - l.length) 0 := by
  simp only [List.getD_eq_getElem?_getD]
  split
  · next h => rw [List.getElem?_append_left h]
  · next h => rw [List.getElem?_append_right (by omega)]
theorem isP_ne {M : MM} {a b : Nat} (h : isP M a) (hb : isK M b) : b + 1 ≠ a ∧ b + 1 ≠ a + 1 := by
  constructor
  · intro q; have := h.1; rw [← q, hb.2.2] at this; cases this
  · intro q; have := h.2.2; rw [← q, hb.2.2] at this; cases this
theorem PkC.ex {A : Nat → Prop} {M M1 : MM} {a : Nat} {l : List Int} (h : Ex A M M1) (ha : ¬ A a) (ha1 : ¬ A (a + 1)) (hp : PkC M a l) : PkC M1 a l := ⟨hp.1.ex h, by rw [h.rI ha]; exact hp.2.1, hp.2.2.1, fun i hi => by rw [h.rU ha1]; exact hp.2.2.2 i hi⟩
theorem put_loop {a : Nat} {v : Int} : ∀ (n fuel : Nat) (M : MM) (l : List Int), n ≤ 4 → n < fuel → PkC M a l → l.length + n ≤ 460 → ∃ M', lpN (fun s : Int × MM => b_X4_put_4 (a : Int) v s.1 s.2) fuel ((n : Int) - 1, M) = some M' ∧ PkC M' a (l ++ be v n) ∧ Ex (fun q => q = a ∨ q = a + 1) M M'
  | 0, fuel, M, l, _, hf, hp, _ => by
    refine ⟨M, lpN_end hf ?_, by show PkC M a (l ++ []); rw [List.append_nil]; exact hp, Ex.refl⟩
    show b_X4_put_4 (a : Int) v (((0 : Nat) : Int) - 1) M = _
    unfold b_X4_put_4
    rw [if_pos (by decide)]
  | n + 1, fuel, M, l, h4, hf, hp, hl => by
    obtain ⟨m, rfl⟩ : ∃ m, fuel = m + 1 := ⟨fuel - 1, by omega⟩
    have e : (((n + 1 : Nat) : Int) - 1) = (n : Int) := by omega
    rw [e]
    have hw := w32_j (j := n) (by omega)
    have hs : w32 (rI M a 1) = (l.length : Int) := by rw [w32_rI]; exact hp.2.1
    let M2 := sI (sI M (a + 1) l.length (sx8 (bush v (8 * (n : Int))))) a 1 (rI M a 1 + 1)
    have hx : Ex (fun q => q = a ∨ q = a + 1) M M2 := by
      have r : Ex (fun q => q = a ∨ q = a + 1) M M := Ex.refl
      exact (r.trans (Ex.st (Or.inr rfl))).trans (Ex.st (Or.inl rfl))
    have stp : b_X4_put_4 (a : Int) v (n : Int) M = some (.inl ((n : Int) - 1, M2)) := by
      unfold b_X4_put_4
      rw [hw, if_neg (by omega), isP_gf hp.1, Option.bind_some, gfi_e hp.1.1, Option.bind_some, sab_e hp.1.2.2 (by decide) (by decide) hs (by omega), Option.bind_some, gfi_e (show (kd (sI M (a + 1) l.length (sx8 (bush v (8 * (n : Int))))) a).1 = 4 from hp.1.1), Option.bind_some, pfi_e (show (kd (sI M (a + 1) l.length (sx8 (bush v (8 * (n : Int))))) a).1 = 4 from hp.1.1), Option.bind_some, rI_sI, if_neg (by omega)]
      rfl
    have hp2 : PkC M2 a (l ++ [bush v (8 * (n : Int)) % 256]) := by
      refine ⟨hp.1.ex hx, ?_, by rw [List.length_append]; show l.length + 1 ≤ 460; omega, ?_⟩
      · show rI (sI _ a 1 _) a 1 = _
        rw [rI_sI, if_pos ⟨rfl, rfl⟩, hp.2.1, w32_id (by omega) (by omega), List.length_append]
        show (l.length : Int) + 1 = ((l.length + 1 : Nat) : Int)
        omega
      · intro i hi
        rw [List.length_append] at hi
        have hi : i < l.length + 1 := hi
        show rU (sI (sI M (a + 1) l.length _) a 1 _) (a + 1) i = _
        rw [rU_sI, if_neg (by omega), rU_sI, getD_app]
        by_cases q : i = l.length
        · rw [if_pos ⟨rfl, q⟩, if_neg (by omega), sx8_emod, q, Nat.sub_self]; rfl
        · rw [if_neg (fun z => q z.2), if_pos (by omega)]; exact hp.2.2.2 i (by omega)
    obtain ⟨M', g1, g2, g3⟩ := put_loop n m M2 _ (by omega) (by omega) hp2 (by rw [List.length_append]; show l.length + 1 + n ≤ 460; omega)
    refine ⟨M', Eq.trans (lpN_cnt (s := ((n : Int), M)) stp) g1, ?_, hx.trans g3⟩
    rw [List.append_assoc] at g2
    exact g2
theorem e_X4_put {M : MM} {a n : Nat} {v : Int} {l : List Int} (hp : PkC M a l) (hn : n ≤ 4) (hl : l.length + n ≤ 460) : ∃ M', f_X4_put (a : Int) v (n : Int) M = some M' ∧ PkC M' a (l ++ be v n) ∧ Ex (fun q => q = a ∨ q = a + 1) M M' := by
  obtain ⟨M', g1, g2, g3⟩ := put_loop (v := v) n FU M l hn (by unfold FU; omega) hp hl
  exact ⟨M', by unfold f_X4_put l_X4_put_4; exact g1, g2, g3⟩
/-- a key's twenty bytes -/
def kbN (x : KF) : Nat → List Int
  | 0 => []
  | n + 1 => kbN x n ++ be (x n) 4
theorem kbN_len (x : KF) : ∀ n, (kbN x n).length = 4 * n
  | 0 => rfl
  | n + 1 => by show (kbN x n ++ be (x n) 4).length = _; rw [List.length_append, kbN_len x n, be_len]; omega
theorem kbN_congr {x y : KF} : ∀ n, (∀ i, i < n → x i = y i) → kbN x n = kbN y n
  | 0, _ => rfl
  | n + 1, h => by show kbN x n ++ be (x n) 4 = kbN y n ++ be (y n) 4; rw [kbN_congr n (fun i hi => h i (by omega)), h n (by omega)]
def kby (x : KF) : List Int := kbN x 5
theorem e_X4_putKey {M : MM} {a b : Nat} {l : List Int} (hp : PkC M a l) (hb : isK M b) (hl : l.length + 20 ≤ 460) : ∃ M', f_X4_putKey (a : Int) (b : Int) M = some M' ∧ PkC M' a (l ++ kby (kC M b)) ∧ Ex (fun q => q = a ∨ q = a + 1) M M' := by
  have hne := isP_ne hp.1 hb
  obtain ⟨⟨x7, W7⟩, n7, hn7, hI7, q7⟩ := lp_inv (b := fun s : Int × MM => b_X4_putKey_2 (a : Int) (b : Int) s.1 s.2) (fun t s => s.1 = (t : Int) ∧ PkC s.2 a (l ++ kbN (kC M b) t) ∧ Ex (fun q => q = a ∨ q = a + 1) M s.2) 5
    (fun t s ht hs => by
      obtain ⟨z, U⟩ := s
      obtain ⟨rfl, h2, h3⟩ := hs
      simp only at h2 h3
      have k2 : isK U b := hb.ex h3
      have hw := w32_j (j := t) (by omega)
      have hk : kC U b t = kC M b t := h3.rI (fun q => by rcases q with q | q; exact hne.1 q; exact hne.2 q) t
      obtain ⟨U', g1, g2, g3⟩ := e_X4_put (v := kC M b t) (n := 4) h2 (by decide) (by rw [List.length_append, kbN_len]; omega)
      refine ⟨(((t + 1 : Nat) : Int), U'), ?_, rfl, ?_, h3.trans g3⟩
      · show b_X4_putKey_2 _ _ _ _ = _
        unfold b_X4_putKey_2
        rw [hw, w32_5, if_pos (by omega), isK_gf k2, Option.bind_some, isK_la k2 hw ht, Option.bind_some, ck_e h2.1.1, hk]
        rw [show f_X4_put (a : Int) (kC M b t) 4 U = some U' from g1]
        rfl
      · show PkC U' a (l ++ (kbN (kC M b) t ++ be (kC M b t) 4))
        rw [← List.append_assoc]
        exact g2) FU 0 (0, M) (by decide) (by decide) ⟨rfl, by show PkC M a (l ++ []); rw [List.append_nil]; exact hp, Ex.refl⟩
  obtain ⟨rfl, hh7, hx7⟩ := hI7
  refine ⟨W7, ?_, hh7, hx7⟩
  unfold f_X4_putKey l_X4_putKey_2
  refine Eq.trans q7 ?_
  refine lpN_end hn7 ?_
  show b_X4_putKey_2 _ _ ((5 : Nat) : Int) W7 = _
  unfold b_X4_putKey_2
  rw [if_neg (by decide)]
/-- a datagram's head -/
def hdB (ty num : Int) (x : KF) : List Int := be ty 1 ++ be num 4 ++ kby x
theorem hdB_len (ty num : Int) (x : KF) : (hdB ty num x).length = 25 := by
  unfold hdB kby
  rw [List.length_append, List.length_append, be_len, be_len, kbN_len]
theorem e_X4_begin {M : MM} {a b : Nat} {ty num : Int} (hp : isP M a) (hb : isK M b) : ∃ M', f_X4_begin (a : Int) ty num (b : Int) M = some M' ∧ PkC M' a (hdB ty num (kC M b)) ∧ Ex (fun q => q = a ∨ q = a + 1) M M' := by
  have hne := isP_ne hp hb
  have x0 : Ex (fun q => q = a ∨ q = a + 1) M (sI M a 1 0) := Ex.st (Or.inl rfl)
  have p0 : PkC (sI M a 1 0) a [] := ⟨hp.ex x0, by rw [rI_sI, if_pos ⟨rfl, rfl⟩]; decide, by decide, fun i hi => by simp at hi⟩
  obtain ⟨M1, g1, g2, g3⟩ := e_X4_put (v := ty) (n := 1) p0 (by decide) (by decide)
  obtain ⟨M2, h1, h2, h3⟩ := e_X4_put (v := num) (n := 4) g2 (by decide) (by rw [List.length_append, be_len]; decide)
  have x2 := (x0.trans g3).trans h3
  obtain ⟨M3, i1, i2, i3⟩ := e_X4_putKey h2 (hb.ex x2) (by rw [List.length_append, List.length_append, be_len, be_len]; decide)
  refine ⟨M3, ?_, ?_, x2.trans i3⟩
  · unfold f_X4_begin
    rw [pfi_e hp.1, Option.bind_some, ck_e p0.1.1, show f_X4_put (a : Int) ty 1 (sI M a 1 0) = some M1 from g1, Option.bind_some, ck_e g2.1.1, show f_X4_put (a : Int) num 4 M1 = some M2 from h1, Option.bind_some, ck_e h2.1.1, i1]
    rfl
  · have hk : kby (kC M2 b) = kby (kC M b) := kbN_congr 5 (fun i _ => x2.rI (fun q => by rcases q with q | q; exact hne.1 q; exact hne.2 q) i)
    rw [hk] at i2
    unfold hdB
    exact i2
theorem e_X4_copy {M : MM} {a b : Nat} {l : List Int} (ha : isP M a) (hb : PkC M b l) (hne : a ≠ b) : ∃ M', f_X4_copy (a : Int) (b : Int) M = some M' ∧ PkC M' a l ∧ Ex (fun q => q = a ∨ q = a + 1) M M' := by
  have x0 : Ex (fun q => q = a ∨ q = a + 1) M (sI M a 1 (rI M b 1)) := Ex.st (Or.inl rfl)
  have a0 := ha.ex x0
  have b0 := hb.1.ex x0
  have hba : b + 1 ≠ a := fun q => by have := ha.1; rw [← q, hb.1.2.2] at this; cases this
  have hs : rI (sI M a 1 (rI M b 1)) a 1 = (l.length : Int) := by rw [rI_sI, if_pos ⟨rfl, rfl⟩, w32_rI]; exact hb.2.1
  have hl := hb.2.2.1
  have hwl : w32 (l.length : Int) = (l.length : Int) := w32_id (by omega) (by omega)
  have hc : cpb ((b + 1 : Nat) : Int) 0 ((a + 1 : Nat) : Int) 0 (l.length : Int) (sI M a 1 (rI M b 1)) = some (cpy2 (sI M a 1 (rI M b 1)).1 (b + 1) (a + 1) 0 0 l.length, (sI M a 1 (rI M b 1)).2) := by
    unfold cpb
    have e1 : (sI M a 1 (rI M b 1)).2.2.1 (b + 1) = (113, 460) := b0.2.2
    have e2 : (sI M a 1 (rI M b 1)).2.2.1 (a + 1) = (113, 460) := a0.2.2
    rw [Int.toNat_natCast, Int.toNat_natCast, e1, e2, hwl, show w32 0 = 0 by decide]
    rw [if_pos ⟨Int.natCast_nonneg _, Int.natCast_nonneg _, by decide, by decide, by decide, by decide, by decide, by decide, Int.natCast_nonneg _, by show (0 : Int) + _ ≤ ((460 : Nat) : Int); omega, by show (0 : Int) + _ ≤ ((460 : Nat) : Int); omega⟩, Int.toNat_natCast]
    rfl
  let M' : MM := (cpy2 (sI M a 1 (rI M b 1)).1 (b + 1) (a + 1) 0 0 l.length, (sI M a 1 (rI M b 1)).2)
  have x1 : Ex (fun q => q = a ∨ q = a + 1) (sI M a 1 (rI M b 1)) M' := ⟨fun c hc i => by
    show cpy2 _ _ _ _ _ _ c i = _
    unfold cpy2
    rw [if_neg (fun q => hc (Or.inr q.1))], rfl⟩
  refine ⟨M', ?_, ⟨a0.ex x1, ?_, hl, ?_⟩, x0.trans x1⟩
  · unfold f_X4_copy
    rw [gfi_e hb.1.1, Option.bind_some, pfi_e ha.1, Option.bind_some, isP_gf b0, Option.bind_some, isP_gf a0, Option.bind_some, gfi_e a0.1, Option.bind_some, hs, hc]
    rfl
  · show w32 (cpy2 (sI M a 1 (rI M b 1)).1 (b + 1) (a + 1) 0 0 l.length a 1) = _
    unfold cpy2
    rw [if_neg (fun q => by have := q.1; omega)]
    exact hs
  · intro i hi
    show (cpy2 (sI M a 1 (rI M b 1)).1 (b + 1) (a + 1) 0 0 l.length (a + 1) i) % 256 = _
    unfold cpy2
    rw [if_pos ⟨rfl, by omega, by omega⟩]
    show rU (sI M a 1 (rI M b 1)) (b + 1) (0 + (i - 0)) = _
    rw [rU_sI, if_neg (fun q => hba q.1), show 0 + (i - 0) = i by omega]
    exact hb.2.2.2 i hi
