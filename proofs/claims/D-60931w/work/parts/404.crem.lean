/-- what requests probe, and the flags of the buckets -/
def prF (Q : Nat → List Rq) (p C : Nat) : Bool := (Q p).any (fun y => decide (qPrb y = some ((C : Nat) : Int)))
def Lk (N : Nat) (Q : Nat → List Rq) (n : Nat → Nat) : Prop := ∀ p, p < N → (∀ y, y ∈ Q p → ∀ c, qPrb y = some c → 0 ≤ c ∧ c.toNat < n p ∧ (c.toNat < n p - 1 ∨ n p = 160)) ∧ (Q p).Pairwise (fun a b => qPrb a = none ∨ qPrb a ≠ qPrb b)
section CREM
variable {S : Nat → Bool} {M M1 : MM} {A : Nat → Prop} {m al N p q r r' x i : Nat} {pa : Nat → Nat} {own : Nat → Ky} {sd ps sn pu rf tl : Nat → Int} {nx lf : Nat → Nat} {Q : Nat → List Rq} {rg : RG} {Bf Bf' : Nat → Nat → Nat} {B : Nat → Nat} {y y' : Rq} {v ad : Int} {k j a : Nat} {T : Nat → List Row} {pf : Nat → Nat → Bool} {g : TG}
theorem pbC.bf {B B' : Nat → Nat} {o : Option Int} (h : pbC M B r o) (hc : ∀ c, o = some c → B' c.toNat = B c.toNat) : pbC M B' r o := by
  cases o with
  | none => exact h
  | some c => show _ = _; rw [hc c rfl]; exact h
theorem RqsC_bf (hR : RqsC M N pa Bf lf Q rg) (hc : ∀ p, p < N → ∀ y, y ∈ Q p → ∀ c, qPrb y = some c → Bf' p c.toNat = Bf p c.toNat) : RqsC M N pa Bf' lf Q rg := by
  obtain ⟨hu, hinj, hb, hj⟩ := hR
  refine ⟨hu, hinj, fun q hq => ?_, hj⟩
  obtain ⟨g1, g2, g3, g4, g5, g6, g7, g8, g9⟩ := hb q hq
  refine ⟨g1, g2, g3, g4, g5, g6, g7, g8, fun i hi => ?_⟩
  obtain ⟨c0, c1, c2, c3, c4, c6, c7, c8, c9, c10⟩ := g9 i hi
  exact ⟨c0, c1, c2, c3, c4, c6, c7, c8, c9, c10.bf (hc q hq _ (by rw [gd_get hi]; exact List.getElem_mem hi))⟩
def remD (D : Nat → Nat) (i L z : Nat) : Nat := if z < i then D z else if z + 1 < L then D (z + 1) else if z + 1 = L then D i else D z
theorem remD_ex {D : Nat → Nat} {L : Nat} (hi : i < L) : ∀ z, ∃ j, (z < L → j < L) ∧ (L ≤ z → j = z) ∧ remD D i L z = D j := fun z => by
  unfold remD
  by_cases c1 : z < i
  · rw [if_pos c1]; exact ⟨z, by omega, by omega, rfl⟩
  · rw [if_neg c1]
    by_cases c2 : z + 1 < L
    · rw [if_pos c2]; exact ⟨z + 1, by omega, by omega, rfl⟩
    · rw [if_neg c2]
      by_cases c3 : z + 1 = L
      · rw [if_pos c3]; exact ⟨i, by omega, by omega, rfl⟩
      · rw [if_neg c3]; exact ⟨z, by omega, by omega, rfl⟩
theorem remD_inj {D : Nat → Nat} {L W : Nat} (hi : i < L) (hL : L ≤ W) (hD : ∀ a b, a < W → b < W → D a = D b → a = b) : ∀ a b, a < W → b < W → remD D i L a = remD D i L b → a = b := by
  intro a b ha hb he
  unfold remD at he
  by_cases a1 : a < i
  · rw [if_pos a1] at he
    by_cases b1 : b < i
    · rw [if_pos b1] at he; exact hD a b ha hb he
    · rw [if_neg b1] at he
      by_cases b2 : b + 1 < L
      · rw [if_pos b2] at he; have := hD _ _ ha (by omega) he; omega
      · rw [if_neg b2] at he
        by_cases b3 : b + 1 = L
        · rw [if_pos b3] at he; have := hD _ _ ha (by omega) he; omega
        · rw [if_neg b3] at he; exact hD a b ha hb he
  · rw [if_neg a1] at he
    by_cases a2 : a + 1 < L
    · rw [if_pos a2] at he
      by_cases b1 : b < i
      · rw [if_pos b1] at he; have := hD _ _ (by omega) hb he; omega
      · rw [if_neg b1] at he
        by_cases b2 : b + 1 < L
        · rw [if_pos b2] at he; have := hD _ _ (by omega) (by omega) he; omega
        · rw [if_neg b2] at he
          by_cases b3 : b + 1 = L
          · rw [if_pos b3] at he; have := hD _ _ (by omega) (by omega) he; omega
          · rw [if_neg b3] at he; have := hD _ _ (by omega) hb he; omega
    · rw [if_neg a2] at he
      by_cases a3 : a + 1 = L
      · rw [if_pos a3] at he
        by_cases b1 : b < i
        · rw [if_pos b1] at he; have := hD _ _ (by omega) hb he; omega
        · rw [if_neg b1] at he
          by_cases b2 : b + 1 < L
          · rw [if_pos b2] at he; have := hD _ _ (by omega) (by omega) he; omega
          · rw [if_neg b2] at he
            by_cases b3 : b + 1 = L
            · omega
            · rw [if_neg b3] at he; have := hD _ _ (by omega) hb he; omega
      · rw [if_neg a3] at he
        by_cases b1 : b < i
        · rw [if_pos b1] at he; exact hD a b ha hb he
        · rw [if_neg b1] at he
          by_cases b2 : b + 1 < L
          · rw [if_pos b2] at he; have := hD _ _ ha (by omega) he; omega
          · rw [if_neg b2] at he
            by_cases b3 : b + 1 = L
            · rw [if_pos b3] at he; have := hD _ _ ha (by omega) he; omega
            · rw [if_neg b3] at he; exact hD a b ha hb he
/-- the row closes up -/
theorem c_removeR (hR : RqsC M N pa Bf lf Q rg) (hP : PeC M N pa own sd ps sn pu rf tl nx) (hp : p < N) (hi : i < (Q p).length) :
    ∃ M1, f_X17_remove ((pa p : Nat) : Int) (i : Int) M = ((gfr 24 10 (((rg p).2 i : Nat) : Int) M1).bind fun v3 => if v3 = -1 then j_X17_remove_72 (((rg p).2 i : Nat) : Int) M1 else (gfr 24 10 (((rg p).2 i : Nat) : Int) M1).bind fun v4 => (pfz 21 2 v4 0 M1).bind fun M2 => j_X17_remove_72 (((rg p).2 i : Nat) : Int) M2) ∧ RqsC M1 N pa Bf lf (fup Q p ((Q p).eraseIdx i)) (fup rg p ((rg p).1, remD (rg p).2 i (Q p).length)) ∧ PeC M1 N pa own sd ps sn pu rf tl nx ∧ ExC (fun z => z = pa p ∨ z = pa p + 9) M M1 := by
  obtain ⟨r, hr⟩ : ∃ r, r = (rg p).2 i := ⟨_, rfl⟩
  rw [← hr]
  obtain ⟨pe, p276, _⟩ := hP.2.2 p hp
  obtain ⟨h1, h2, h3, h4, h5, h6, h7, h8, h9⟩ := hR.2.2.1 p hp
  obtain ⟨L, hL⟩ : ∃ L, L = (Q p).length := ⟨_, rfl⟩
  obtain ⟨D, hD⟩ : ∃ D, D = (rg p).2 := ⟨_, rfl⟩
  obtain ⟨W, hW⟩ : ∃ W, W = (rg p).1 := ⟨_, rfl⟩
  rw [← hL] at h3 h4 h9 hi ⊢
  rw [← hD] at h6 h8 h9 hr ⊢
  rw [← hW] at h4 h5 h6 h7 h8 ⊢
  have hrq : isRq M r := by rw [hr]; exact (h6 i (by omega)).2
  have r8 := pe.2.2.1.2.2.2.2.2.1
  let U0 := sI M (pa p) 9 ((L : Int) - 1)
  have u09 : rI U0 (pa p) 9 = ((L - 1 : Nat) : Int) := by
    show rI (sI M (pa p) 9 _) (pa p) 9 = _
    rw [rI_eq rfl, w32_id (by omega) (by omega)]
    omega
  -- the row closes up
  have loop : ∀ d x fu (U : MM), d + x = L - 1 → d < fu → i ≤ x → ExC (fun z => z = pa p + 9) U0 U → (∀ w, rR U (pa p + 9) w = if i ≤ w ∧ w < x then ((D (w + 1) : Nat) : Int) else rR M (pa p + 9) w) → ∃ U', lpN (fun s : Int × MM => b_X17_remove_19 ((pa p : Nat) : Int) (r : Int) s.1 s.2) fu ((x : Int), U) = j_X17_remove_47 ((pa p : Nat) : Int) (r : Int) U' ∧ ExC (fun z => z = pa p + 9) U0 U' ∧ ∀ w, rR U' (pa p + 9) w = if i ≤ w ∧ w < L - 1 then ((D (w + 1) : Nat) : Int) else rR M (pa p + 9) w := by
    intro d
    induction d with
    | zero =>
      intro x fu U hd hf hix hx hw
      have e : x = L - 1 := by omega
      subst e
      refine ⟨U, ?_, hx, hw⟩
      refine lpN_end (b := fun s : Int × MM => b_X17_remove_19 ((pa p : Nat) : Int) (r : Int) s.1 s.2) (by omega) ?_
      dsimp only
      unfold b_X17_remove_19
      rw [gfi_e (by rw [hx.kd]; exact h1), Option.bind_some, hx.rI (by omega), u09, if_neg (by omega)]
    | succ d ih =>
      intro x fu U hd hf hix hx hw
      obtain ⟨f, rfl⟩ : ∃ f, fu = f + 1 := ⟨fu - 1, by omega⟩
      have kU : kd U (pa p + 9) = (603, 40) := by rw [hx.kd]; exact h2
      have k17 : (kd U (pa p)).1 = 17 := by rw [hx.kd]; exact h1
      have rU8 : rR U (pa p) 8 = ((pa p + 9 : Nat) : Int) := by rw [hx.rR (by omega)]; exact r8
      have rx : rR U (pa p + 9) (x + 1) = ((D (x + 1) : Nat) : Int) := by rw [hw, if_neg (by omega)]; exact (h6 (x + 1) (by omega)).1
      have st : b_X17_remove_19 ((pa p : Nat) : Int) (r : Int) (x : Int) U = some (.inl (((x + 1 : Nat) : Int), sR U (pa p + 9) x ((D (x + 1) : Nat) : Int))) := by
        unfold b_X17_remove_19
        rw [gfi_e k17, Option.bind_some, hx.rI (by omega), u09, w32_nn (by omega), w32_nn (by omega), if_pos (by omega), gfr_e k17, rU8, Option.bind_some, Option.bind_some, show ((x : Int) + 1) = ((x + 1 : Nat) : Int) by omega, lar_n kU (by decide) (by omega) (by decide), rx, Option.bind_some, sar_n kU (by decide) (by omega) (by decide) (by rw [hx.kd]; show (kd M (D (x + 1))).1 = _; rw [(h6 (x + 1) (by omega)).2.1]; rfl), Option.bind_some]
        rfl
      rw [lpN_cnt (b := fun s : Int × MM => b_X17_remove_19 ((pa p : Nat) : Int) (r : Int) s.1 s.2) (s := ((x : Int), U)) st]
      refine ih (x + 1) f _ (by omega) (by omega) (by omega) (hx.trans (ExC_sR (A := fun z => z = pa p + 9) rfl)) (fun w => ?_)
      rw [rR_sR]
      by_cases c : w = x
      · subst c
        rw [if_pos ⟨rfl, rfl⟩, if_pos (by omega)]
      · rw [if_neg (fun z => c z.2), hw]
        by_cases c2 : i ≤ w ∧ w < x
        · rw [if_pos c2, if_pos (by omega)]
        · rw [if_neg c2, if_neg (by omega)]
  obtain ⟨U, e1, e2, e3⟩ := loop (L - 1 - i) i FU U0 (by omega) (by unfold FU; omega) (by omega) ExC.refl (fun w => by rw [if_neg (by omega)]; rfl)
  have kU : kd U (pa p + 9) = (603, 40) := by rw [e2.kd]; exact h2
  have k17 : (kd U (pa p)).1 = 17 := by rw [e2.kd]; exact h1
  have rU8 : rR U (pa p) 8 = ((pa p + 9 : Nat) : Int) := by rw [e2.rR (by omega)]; exact r8
  let V := sR U (pa p + 9) (L - 1) (r : Int)
  have ex : ExC (fun z => z = pa p ∨ z = pa p + 9) M V := ExC.trans (M1 := U) (ExC.trans (M1 := U0) (ExC_sI (A := fun z => z = pa p ∨ z = pa p + 9) (Or.inl rfl)) (e2.mono (fun z hz => Or.inr hz))) (ExC_sR (A := fun z => z = pa p ∨ z = pa p + 9) (Or.inr rfl))
  have IV : ∀ k, k ≠ 9 → rI V (pa p) k = rI M (pa p) k := fun k hk => by
    show rI U (pa p) k = _
    rw [e2.rI (by omega)]
    show rI (sI M (pa p) 9 _) (pa p) k = _
    rw [rI_ne (by omega)]
  have RV : ∀ k, rR V (pa p) k = rR M (pa p) k := fun k => by
    show rR (sR U (pa p + 9) (L - 1) _) (pa p) k = _
    rw [rR_ne (by omega), e2.rR (by omega)]
    rfl
  have pe' := fun q hq => (hP.2.2 q hq).1
  have lenE : ((Q p).eraseIdx i).length = L - 1 := by rw [List.length_eraseIdx_of_lt (by omega)]; omega
  refine ⟨V, ?_, ?_, ?_, ex⟩
  · unfold f_X17_remove l_X17_remove_19
    rw [gfr_e h1, r8, Option.bind_some, lar_n h2 (by decide) (by omega) (by decide), (h6 i (by omega)).1, ← hr, Option.bind_some, gfi_e h1, h3, Option.bind_some, pfi_e h1, Option.bind_some]
    show lpN (fun s : Int × MM => b_X17_remove_19 ((pa p : Nat) : Int) (r : Int) s.1 s.2) FU ((i : Int), U0) = _
    rw [e1]
    unfold j_X17_remove_47
    rw [gfr_e k17, rU8, Option.bind_some, gfi_e k17, e2.rI (by omega), u09, Option.bind_some, sar_n kU (by decide) (by omega) (by decide) (by rw [e2.kd]; show (kd M r).1 = _; rw [hrq.1]; rfl), Option.bind_some]
  · have rV : ∀ w, rR V (pa p + 9) w = if w = L - 1 then (r : Int) else if i ≤ w ∧ w < L - 1 then ((D (w + 1) : Nat) : Int) else rR M (pa p + 9) w := fun w => by
      show rR (sR U (pa p + 9) (L - 1) _) (pa p + 9) w = _
      rw [rR_sR, e3]
      by_cases c : w = L - 1
      · rw [if_pos ⟨rfl, c⟩, if_pos c]
      · rw [if_neg (fun z => c z.2), if_neg c]
    have dV : ∀ w, w < W → rR V (pa p + 9) w = ((remD D i L w : Nat) : Int) := fun w hw => by
      rw [rV]
      unfold remD
      by_cases c1 : w < i
      · rw [if_neg (by omega), if_neg (by omega), if_pos c1]; exact (h6 w hw).1
      · rw [if_neg c1]
        by_cases c2 : w + 1 < L
        · rw [if_neg (by omega), if_pos (by omega), if_pos c2]
        · rw [if_neg c2]
          by_cases c3 : w + 1 = L
          · rw [if_pos (by omega), if_pos c3, hr]
          · rw [if_neg (by omega), if_neg (by omega), if_neg c3]; exact (h6 w hw).1
    have := rqs_perm (Q' := (Q p).eraseIdx i) (D' := remD D i L) hR hP hp ex (by
        show rI U (pa p) 9 = _
        rw [e2.rI (by omega), u09, lenE]) (by omega) (fun w hw => by
        rw [← hW] at hw
        refine ⟨dV w hw, ?_⟩
        obtain ⟨j, j1, j2, j3⟩ := remD_ex (D := D) (i := i) (L := L) hi w
        rw [← hW, ← hD]
        by_cases c : w < L
        · exact ⟨j, by have := j1 c; omega, j3⟩
        · exact ⟨j, by rw [j2 (by omega)]; exact hw, j3⟩) (fun w w1 w2 => by
        rw [← hW] at w1
        rw [rV, if_neg (by omega), if_neg (by omega)]
        exact h7 w w1 w2) (by rw [← hW]; exact remD_inj hi h4 h8) (fun w hw => by
        rw [lenE] at hw
        rw [← hL, ← hD]
        unfold remD
        by_cases c1 : w < i
        · refine ⟨w, by omega, by rw [if_pos c1], ?_⟩
          rw [List.getD_eq_getElem?_getD, List.getElem?_eraseIdx_of_lt c1, ← List.getD_eq_getElem?_getD]
        · refine ⟨w + 1, by omega, by rw [if_neg c1, if_pos (by omega)], ?_⟩
          rw [List.getD_eq_getElem?_getD, List.getElem?_eraseIdx_of_ge (by omega), ← List.getD_eq_getElem?_getD])
    rw [← hW] at this
    exact this
  · have ne : ∀ q, q < N → q ≠ p → ¬ (pa q = pa p ∨ pa q = pa p + 9) := fun q hq e z => by
      rcases z with z | z
      · exact e (hP.2.1 q p hq hp z)
      · have g1 := (pe' q hq).1
        rw [z, h2] at g1
        exact absurd g1 (by decide)
    have := PeC_a (n' := nx p) hP hp ex.exa (fun q hq => ⟨ne q hq, fun z => by
        have e := (pe' q hq).2.2.2.1
        rcases z with z | z
        · rw [z, pe.1] at e; exact absurd e (by decide)
        · rw [z, h2] at e; exact absurd e (by decide), fun z => by
        have e := (pe' q hq).2.2.2.2.1.2.2
        rcases z with z | z
        · rw [show pa q + 1 + 1 = pa q + 2 from rfl, z, pe.1] at e; exact absurd e (by decide)
        · rw [show pa q + 1 + 1 = pa q + 2 from rfl, z, h2] at e; exact absurd e (by decide)⟩) (fun k k9 _ => IV k k9) RV (by rw [IV 10 (by decide)]; exact (hP.2.2 p hp).2.2.2.2.2.1)
    rw [fup_self] at this
    exact this
theorem mem_erase_split {α : Type} {l : List α} {d : α} (hi : i < l.length) {z : α} : z ∈ l ↔ z = l.getD i d ∨ z ∈ l.eraseIdx i := by
  have hp := get_perm l i hi
  rw [hp.mem_iff, List.mem_cons, gd_get hi]
theorem any_erase {α : Type} {l : List α} {d : α} (hi : i < l.length) (f : α → Bool) : l.any f = (f (l.getD i d) || (l.eraseIdx i).any f) := by
  rw [Bool.eq_iff_iff, List.any_eq_true, Bool.or_eq_true, List.any_eq_true]
  constructor
  · rintro ⟨z, z1, z2⟩
    rcases (mem_erase_split (d := d) hi).mp z1 with e | e
    · left; rw [← e]; exact z2
    · exact Or.inr ⟨z, e, z2⟩
  · rintro (h | ⟨z, z1, z2⟩)
    · exact ⟨_, (mem_erase_split (d := d) hi).mpr (Or.inl rfl), h⟩
    · exact ⟨z, (mem_erase_split (d := d) hi).mpr (Or.inr z1), z2⟩
theorem pw_erase {R : List Rq} (h : R.Pairwise (fun a b => qPrb a = none ∨ qPrb a ≠ qPrb b)) (hi : i < R.length) {c : Int} (hc : qPrb (R.getD i q0) = some c) : ∀ z, z ∈ R.eraseIdx i → qPrb z ≠ some c := by
  intro z hz e
  obtain ⟨k, kl, ke⟩ := List.mem_eraseIdx_iff_getElem.mp hz
  obtain ⟨kn, ke⟩ := ke
  have hq := List.pairwise_iff_getElem.mp h
  rw [gd_get hi] at hc
  rcases Nat.lt_or_gt_of_ne kn with w | w
  · rcases hq k i kl hi w with u | u
    · rw [ke, e] at u; cases u
    · exact u (by rw [ke, e, hc])
  · rcases hq i k hi kl w with u | u
    · rw [hc] at u; cases u
    · exact u (by rw [ke, e, hc])
theorem prF_erase (hL : (Q p).Pairwise (fun a b => qPrb a = none ∨ qPrb a ≠ qPrb b)) (hi : i < (Q p).length) : prF (fup Q p ((Q p).eraseIdx i)) = match qPrb ((Q p).getD i q0) with | none => prF Q | some c => fup (prF Q) p (fun C => if c = ((C : Nat) : Int) then false else prF Q p C) := by
  have other : ∀ q, q ≠ p → prF (fup Q p ((Q p).eraseIdx i)) q = prF Q q := fun q e => by
    funext C
    unfold prF
    rw [fup_ne e]
  cases hc : qPrb ((Q p).getD i q0) with
  | none =>
    funext q C
    dsimp only
    by_cases e : q = p
    · subst e
      unfold prF
      rw [fup_eq, any_erase (d := q0) (l := Q q) hi, hc]
      simp
    · rw [other q e]
  | some c =>
    funext q C
    dsimp only
    by_cases e : q = p
    · subst e
      rw [fup_eq]
      unfold prF
      rw [fup_eq]
      by_cases d : c = ((C : Nat) : Int)
      · rw [if_pos d, List.any_eq_false]
        intro z hz
        have := pw_erase hL hi hc z hz
        rw [d] at this
        simpa using this
      · rw [if_neg d, any_erase (d := q0) (l := Q q) hi, hc, decide_eq_false (fun z => d (Option.some.inj z)), Bool.false_or]
    · rw [other q e, fup_ne e]
theorem rq_no (hr : isRq M r) (hs : S 5 = false) : ∀ z, r ≤ z → z ≤ r + 4 → ¬ (fun q => S (mo M q) = true) z := fun z z1 z2 => by
  obtain ⟨o1, o2, o3, o4, o5⟩ := Rq_mo hr
  have e : z = r ∨ z = r + 1 ∨ z = r + 2 ∨ z = r + 3 ∨ z = r + 4 := by omega
  refine FK.no ?_
  rcases e with e | e | e | e | e <;> rw [e]
  · rw [o1]; exact hs
  · rw [o2]; exact hs
  · rw [o3]; exact hs
  · rw [o4]; exact hs
  · rw [o5]; exact hs
theorem c_removeQ {T : Nat → List Row} {g : TG} (hR : RqsC M N pa (fun q => (g.2.2.2.2 q).2.2.1) lf Q rg) (hP : PeC M N pa own sd ps sn pu rf tl nx) (hT : TbsC M m N pa own T (prF Q) g) (hL : Lk N Q (fun q => (g.2.2.2.2 q).1)) (hp : p < N) (hi : i < (Q p).length) :
    ∃ M' rg' g', f_X17_remove ((pa p : Nat) : Int) (i : Int) M = some ((((rg p).2 i : Nat) : Int), M') ∧ RqsC M' N pa (fun q => (g'.2.2.2.2 q).2.2.1) lf (fup Q p ((Q p).eraseIdx i)) rg' ∧ PeC M' N pa own sd ps sn pu rf tl nx ∧ TbsC M' m N pa own T (prF (fup Q p ((Q p).eraseIdx i))) g' ∧ Lk N (fup Q p ((Q p).eraseIdx i)) (fun q => (g'.2.2.2.2 q).1) ∧ isRq M' ((rg p).2 i) ∧ RqC M' N pa (g.2.2.2.2 p).2.2.1 lf ((rg p).2 i) ((Q p).getD i q0) ∧ (∀ q, (rg' q).1 = (rg q).1) ∧ (g'.2.2.2.1 = g.2.2.2.1 ∧ tbN N T g' = tbN N T g ∧ tbU N m T g' = tbU N m T g) ∧ (nN M' = nN M ∧ nU M' = nU M) ∧ ∀ S : Nat → Bool, S 2 = true → S 5 = true → FK S M M' := by
  obtain ⟨M1, e1, e2, e3, e4⟩ := c_removeR hR hP hp hi
  obtain ⟨r, hr⟩ : ∃ r, r = (rg p).2 i := ⟨_, rfl⟩
  rw [← hr] at e1 ⊢
  obtain ⟨pe, p276, _⟩ := hP.2.2 p hp
  obtain ⟨h1, h2, h3, h4, h5, h6, h7, h8, h9⟩ := hR.2.2.1 p hp
  have hrq : isRq M r := by rw [hr]; exact (h6 i (by omega)).2
  have hyc := h9 i hi
  rw [← hr] at hyc
  have stay : ∀ z, r ≤ z → z ≤ r + 4 → ¬ (z = pa p ∨ z = pa p + 9) := fun z z1 z2 e => rq_pe hrq pe (z := z) (by omega) ⟨z1, z2⟩
  have hrq1 : isRq M1 r := hrq.exa e4.exa hR.1 stay
  have hyc1 : RqC M1 N pa (g.2.2.2.2 p).2.2.1 lf r ((Q p).getD i q0) := hyc.exa e4.exa hR.1 stay hrq
  have k24 : (kd M1 r).1 = 24 := by rw [hrq1.1]
  have mo5 : ∀ z, (z = pa p ∨ z = pa p + 9) → mo M z = 5 := fun z hz => by
    obtain ⟨o1, _, _, o4⟩ := Pe_mo pe
    rcases hz with e | e <;> rw [e]
    · exact o1
    · exact o4
  have f5 : FK (fun z => decide (z = 5)) M M1 := fk5 e4 mo5 (by decide)
  have T1 : TbsC M1 m N pa own T (prF Q) g := tbs_fk f5 ⟨by decide, by decide⟩ hT
  have pb := hyc1.2.2.2.2.2.2.2.2.2
  have hpf := prF_erase (hL p hp).2 hi
  have memE : ∀ q y, y ∈ fup Q p ((Q p).eraseIdx i) q → y ∈ Q q := fun q y hy => by
    by_cases e : q = p
    · subst e
      rw [fup_eq] at hy
      exact List.mem_of_mem_eraseIdx hy
    · rw [fup_ne e] at hy; exact hy
  have hL' : Lk N (fup Q p ((Q p).eraseIdx i)) (fun q => (g.2.2.2.2 q).1) := fun q hq => by
    refine ⟨fun y hy => (hL q hq).1 y (memE q y hy), ?_⟩
    by_cases e : q = p
    · subst e; rw [fup_eq]; exact (hL q hq).2.sublist (List.eraseIdx_sublist _ _)
    · rw [fup_ne e]; exact (hL q hq).2
  cases hc : qPrb ((Q p).getD i q0) with
  | none =>
    rw [hc] at pb hpf
    have pb : rR M1 r 10 = -1 := pb
    refine ⟨M1, _, g, ?_, e2, e3, by rw [hpf]; exact T1, hL', hrq1, hyc1, fun q => ?_, ⟨rfl, rfl, rfl⟩, ⟨e4.nN, e4.nU⟩, fun S s2 s5 => fk5 e4 mo5 s5⟩
    · rw [e1, gfr_e k24, pb, Option.bind_some, if_pos rfl]
      rfl
    · by_cases e : q = p
      · subst e; rw [fup_eq]
      · rw [fup_ne e]
  | some c =>
    rw [hc] at pb hpf
    have pb : rR M1 r 10 = (((g.2.2.2.2 p).2.2.1 c.toNat : Nat) : Int) := pb
    obtain ⟨c0, c1, c2⟩ := (hL p hp).1 ((Q p).getD i q0) (by rw [gd_get hi]; exact List.getElem_mem hi) c hc
    obtain ⟨M2, g', t1, t2, t3, ⟨t4, t5, t6, t7⟩, t8, t9, t10⟩ := c_flagT (C := c.toNat) (v := false) T1 hp c1 (fun z => absurd z (by decide))
    have f2 : FK (fun z => decide (z = 2)) M1 M2 := t8 _ (by decide)
    have R2 := RqsC_fk f2 (by decide) e2
    have epf : fup (prF Q) p (fup (prF Q p) c.toNat false) = prF (fup Q p ((Q p).eraseIdx i)) := by
      rw [hpf]
      dsimp only
      congr 1
      funext C
      unfold fup
      by_cases d : C = c.toNat
      · rw [if_pos d, if_pos (by omega)]
      · rw [if_neg d, if_neg (by omega)]
    have bA : ∀ q, q < N → (g.2.2.2.2 q).1 ≤ (g.2.2.2.2 q).2.1 := fun q hq => (hT.2.2.2.2.2 q hq).2.2.1.2
    refine ⟨M2, _, g', ?_, RqsC_bf R2 (fun q hq y hy c' hc' => ?_), PeC_fk f2 ⟨by decide, by decide⟩ e3, by rw [← epf]; exact t2, fun q hq => ?_, ?_, ?_, fun q => ?_, ⟨t3, t6, t7⟩, ⟨by rw [t4]; exact e4.nN, by rw [t5]; exact e4.nU⟩, fun S s2 s5 => (fk5 e4 mo5 s5).trans (t8 S s2)⟩
    · rw [e1, gfr_e k24, pb, Option.bind_some, if_neg (by omega), Option.bind_some, show pfz 21 2 (((g.2.2.2.2 p).2.2.1 c.toNat : Nat) : Int) 0 M1 = some M2 from t1, Option.bind_some]
      rfl
    · obtain ⟨w0, w1, w2⟩ := (hL q hq).1 y (memE q y hy) c' hc'
      exact (t9 q hq).2 _ (Nat.lt_of_lt_of_le w1 (bA q hq))
    · have := hL' q hq
      dsimp only at this ⊢
      rw [← t10 q hq]
      exact this
    · exact hrq1.exa f2 e3.1 (rq_no (S := fun z => decide (z = 2)) hrq1 (by decide))
    · exact hyc1.exa f2 e3.1 (rq_no (S := fun z => decide (z = 2)) hrq1 (by decide)) hrq1
    · by_cases e : q = p
      · subst e; rw [fup_eq]
      · rw [fup_ne e]
end CREM
