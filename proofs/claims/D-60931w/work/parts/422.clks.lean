/-! the works of the class: what they consist of, their lookups -/
def WlS (M : MM) (a : Nat) : Prop := (kd M a).1 = 11 ∧ (rR M a 0 = ((18 : Nat) : Int) ∧ rR M a 1 = ((a + 5 : Nat) : Int) ∧ rR M a 7 = ((a + 1 : Nat) : Int) ∧ rR M a 8 = ((a + 3 : Nat) : Int) ∧ rR M a 9 = ((a + 4 : Nat) : Int)) ∧ kd M (a + 1) = (3, 13) ∧ isK M (a + 1) ∧ kd M (a + 3) = (13, 14) ∧ kd M (a + 4) = (14, 15)
abbrev EG : Type := Nat → Nat × (Nat → Nat)
def LksC (M : MM) (m T : Nat) (pa : Nat → Nat) (lk : Nat → LkA) (lf : Nat → Nat) (eg : EG) : Prop :=
  UN M ∧ (∀ t t', t < T → t' < T → wa pa t = wa pa t' → t = t') ∧ (∀ t, t < T → WlS M (wa pa t) ∧ LuC M (wa pa t + 5) m (lk t).1 (lk t).2.2.1 (eg t).1 (eg t).2 ∧ rI M (wa pa t + 5) 4 = (lk t).2.2.2 ∧ rI M (wa pa t + 5) 5 = b2i (lk t).2.1 ∧ rI M (wa pa t) 5 = (lf t : Int)) ∧ ∀ t t' i j, t < T → t' < T → i < (eg t).1 → j < (eg t').1 → (eg t).2 i = (eg t').2 j → t = t'
section CLKS
variable {S : Nat → Bool} {M M1 : MM} {B : Nat → Prop} {m al N T p t kx a u : Nat} {pa : Nat → Nat} {own : Nat → Ky} {sd ps sn pu rf : Nat → Int} {tm : Int} {lf : Nat → Nat} {b : Nat × Nat} {w : Wd} {h : Gh} {lk : Nat → LkA} {eg : EG}
theorem Wl_mo (hS : WlS M a) : mo M a = 12 ∧ mo M (a + 1) = 12 ∧ mo M (a + 2) = 12 ∧ mo M (a + 3) = 12 ∧ mo M (a + 4) = 12 := ⟨mo_cl1 hS.1 (by decide) (by decide), mo_cl hS.2.2.1 (by decide) (by decide), mo_kw (q := a + 1) hS.2.2.2.1.2.2 (Or.inl rfl) hS.2.2.1 (by decide) (by decide), mo_cl1 (c := 13) (by rw [hS.2.2.2.2.1]) (by decide) (by decide), mo_cl1 (c := 14) (by rw [hS.2.2.2.2.2]) (by decide) (by decide)⟩
theorem En_mo {e : Nat} (h : isEn M e) : mo M e = 6 ∧ mo M (e + 1) = 6 ∧ mo M (e + 2) = 6 := ⟨mo_cl1 (c := 27) (by rw [h.1]) (by decide) (by decide), mo_cl h.2.2.1 (by decide) (by decide), mo_kw (q := e + 1) h.2.2.2.2.2 (Or.inl rfl) h.2.2.1 (by decide) (by decide)⟩
theorem Lu_mo (h : LuS M u m) : mo M u = 6 ∧ mo M (u + 1) = 6 ∧ mo M (u + 2) = 6 ∧ mo M (u + 3) = 6 := ⟨mo_cl1 (c := 15) (by rw [h.1]) (by decide) (by decide), mo_ar h.2.2.1 (by decide) (by decide), mo_cl h.2.2.2.2.1 (by decide) (by decide), mo_kw (q := u + 2) h.2.2.2.2.2.1.2.2 (Or.inl rfl) h.2.2.2.2.1 (by decide) (by decide)⟩
theorem WlS_lt (hu : UN M) (hS : WlS M a) : a + 4 < nN M := hu.lt (by rw [hS.2.2.2.2.2]; decide)
theorem WlS.exa (hx : ExA B M M1) (hu : UN M) (h0 : ¬ B a) (h1 : ¬ B (a + 1)) (hS : WlS M a) : WlS M1 a := by
  have hl := WlS_lt hu hS
  obtain ⟨s1, ⟨s2, s3, s4, s5, s6⟩, s7, s8, s9, s10⟩ := hS
  have R : ∀ i, rR M1 a i = rR M a i := fun i => hx.rR (by omega) h0 i
  exact ⟨by rw [hx.kd (by omega)]; exact s1, ⟨by rw [R]; exact s2, by rw [R]; exact s3, by rw [R]; exact s4, by rw [R]; exact s5, by rw [R]; exact s6⟩, by rw [hx.kd (by omega)]; exact s7, hx.isK hu h1 s8, by rw [hx.kd (by omega)]; exact s9, by rw [hx.kd (by omega)]; exact s10⟩
theorem LksC_fk (f : FK S M M1) (hs2 : S 6 = false ∧ S 12 = false) (hL : LksC M m T pa lk lf eg) : LksC M1 m T pa lk lf eg := by
  obtain ⟨hs, hs12⟩ := hs2
  obtain ⟨hu, h1, h2, h3⟩ := hL
  refine ⟨f.un hu, h1, fun t ht => ?_, h3⟩
  obtain ⟨w1, w2, w3, w4, w5⟩ := h2 t ht
  have hl := WlS_lt hu w1
  have hl2 := LuS_lt hu w2.1
  obtain ⟨o1, o2, o3, o4, o5⟩ := Wl_mo w1
  obtain ⟨u1, u2, u3, u4⟩ := Lu_mo w2.1
  refine ⟨w1.exa f hu (FK.no (by rw [o1]; exact hs12)) (FK.no (by rw [o2]; exact hs12)), w2.exa f hu (fun z z1 z2 => FK.no ?_) (fun i hi z z1 z2 => FK.no ?_), by rw [f.rI (by omega) (by rw [u1]; exact hs)]; exact w3, by rw [f.rI (by omega) (by rw [u1]; exact hs)]; exact w4, by rw [f.rI (by omega) (by rw [o1]; exact hs12)]; exact w5⟩
  · have e : z = wa pa t + 5 ∨ z = wa pa t + 5 + 1 ∨ z = wa pa t + 5 + 2 ∨ z = wa pa t + 5 + 3 := by omega
    rcases e with e | e | e | e <;> rw [e]
    · rw [u1]; exact hs
    · rw [u2]; exact hs
    · rw [u3]; exact hs
    · rw [u4]; exact hs
  · obtain ⟨e1, e2, e3⟩ := En_mo (w2.2.2.2.2.2.1 i hi).2
    have e : z = (eg t).2 i ∨ z = (eg t).2 i + 1 ∨ z = (eg t).2 i + 2 := by omega
    rcases e with e | e | e <;> rw [e]
    · rw [e1]; exact hs
    · rw [e2]; exact hs
    · rw [e3]; exact hs
/-- cells that a step of one lookup writes -/
def AL3 (u A : Nat) (D : Nat → Nat) (q : Nat) : Prop := AL u A D q ∨ q = u + 3
theorem al3_mo {tgt : Ky} {E : List Ent} {A : Nat} {D : Nat → Nat} (hL : LuC M u m tgt E A D) {q : Nat} (hq : AL3 u A D q) : mo M q = 6 := by
  obtain ⟨u1, u2, u3, u4⟩ := Lu_mo hL.1
  rcases hq with (e | e | ⟨i, hi, e | e⟩) | e <;> rw [e]
  · exact u1
  · exact u2
  · exact (En_mo (hL.2.2.2.2.2.1 i hi).2).1
  · exact (En_mo (hL.2.2.2.2.2.1 i hi).2).2.2
  · exact u4
/-- a step of one lookup is nothing to another -/
theorem lks_step {A' : Nat} {D' : Nat → Nat} {k' : LkA} (hL : LksC M m T pa lk lf eg) (ht : t < T) (hx : ExA (AL3 (wa pa t + 5) (eg t).1 (eg t).2) M M1) (hn : LuC M1 (wa pa t + 5) m k'.1 k'.2.2.1 A' D') (h4 : rI M1 (wa pa t + 5) 4 = k'.2.2.2) (h5 : rI M1 (wa pa t + 5) 5 = b2i k'.2.1) (hd : DW M (eg t).1 (eg t).2 A' D') : LksC M1 m T pa (fup lk t k') lf (fup eg t (A', D')) := by
  obtain ⟨hu, h1, h2, h3⟩ := hL
  obtain ⟨v1, v2, v3, v4, v5⟩ := h2 t ht
  obtain ⟨u, hu0⟩ : ∃ u, u = wa pa t + 5 := ⟨_, rfl⟩
  rw [← hu0] at hx hn h4 h5 v2 v3 v4
  have us := v2.1
  have ltD : ∀ t i, t < T → i < (eg t).1 → (eg t).2 i + 2 < nN M := fun t i ht hi => isEn_lt hu ((h2 t ht).2.1.2.2.2.2.2.1 i hi).2
  -- kinds of what is written
  have kinds : ∀ q, AL3 u (eg t).1 (eg t).2 q → (q = u ∧ (kd M q).1 = 15) ∨ (q = u + 1 ∧ (kd M q).1 = 376) ∨ (∃ i, i < (eg t).1 ∧ q = (eg t).2 i ∧ (kd M q).1 = 27) ∨ (∃ i, i < (eg t).1 ∧ q = (eg t).2 i + 2 ∧ (kd M q).1 = 64) ∨ (q = u + 3 ∧ (kd M q).1 = 64) := fun q hq => by
    rcases hq with (e | e | ⟨i, hi, e | e⟩) | e
    · exact Or.inl ⟨e, by rw [e, us.1]⟩
    · exact Or.inr (Or.inl ⟨e, by rw [e, us.2.2.1]⟩)
    · exact Or.inr (Or.inr (Or.inl ⟨i, hi, e, by rw [e, (v2.2.2.2.2.2.1 i hi).2.1]⟩))
    · exact Or.inr (Or.inr (Or.inr (Or.inl ⟨i, hi, e, by rw [e, show (eg t).2 i + 2 = (eg t).2 i + 1 + 1 from rfl, (v2.2.2.2.2.2.1 i hi).2.2.2.2.2.2]⟩)))
    · exact Or.inr (Or.inr (Or.inr (Or.inr ⟨e, by rw [e, show u + 3 = u + 2 + 1 from rfl, us.2.2.2.2.2.1.2.2]⟩)))
  have no : ∀ q c, (kd M q).1 = c → c ≠ 15 → c ≠ 376 → c ≠ 27 → c ≠ 64 → ¬ AL3 u (eg t).1 (eg t).2 q := fun q c hc c1 c2 c3 c4 hq => by
    rcases kinds q hq with z | z | ⟨i, _, z⟩ | ⟨i, _, z⟩ | z <;> omega
  refine ⟨hx.un hu, h1, fun t' ht' => ?_, fun t1 t2 i j q1 q2 hi hj he => ?_⟩
  · obtain ⟨w1, w2, w3, w4, w5⟩ := h2 t' ht'
    have hl := WlS_lt hu w1
    have hl2 := LuS_lt hu w2.1
    have na : ¬ AL3 u (eg t).1 (eg t).2 (wa pa t') := no _ 11 w1.1 (by decide) (by decide) (by decide) (by decide)
    have na1 : ¬ AL3 u (eg t).1 (eg t).2 (wa pa t' + 1) := no _ 3 (by rw [w1.2.2.1]) (by decide) (by decide) (by decide) (by decide)
    have W1 := w1.exa hx hu na na1
    by_cases c : t' = t
    · subst c
      rw [fup_eq, fup_eq]
      rw [← hu0]
      exact ⟨W1, hn, h4, h5, by rw [hx.rI (by omega) na]; exact w5⟩
    · rw [fup_ne c, fup_ne c]
      obtain ⟨u', hu'⟩ : ∃ u', u' = wa pa t' + 5 := ⟨_, rfl⟩
      rw [← hu'] at w2 w3 w4 hl2 ⊢
      have une : u' ≠ u := fun z => c (h1 t' t ht' ht (by omega))
      have us' := w2.1
      have n0 : ¬ AL3 u (eg t).1 (eg t).2 u' := fun q => by
        have k : (kd M u').1 = 15 := by rw [us'.1]
        rcases kinds u' q with z | z | ⟨i, _, z⟩ | ⟨i, _, z⟩ | z
        · exact une z.1
        · omega
        · omega
        · omega
        · omega
      have n1 : ¬ AL3 u (eg t).1 (eg t).2 (u' + 1) := fun q => by
        have k : (kd M (u' + 1)).1 = 376 := by rw [us'.2.2.1]
        rcases kinds _ q with z | z | ⟨i, _, z⟩ | ⟨i, _, z⟩ | z <;> omega
      have n2 : ¬ AL3 u (eg t).1 (eg t).2 (u' + 2) := no _ 3 (by rw [us'.2.2.2.2.1]) (by decide) (by decide) (by decide) (by decide)
      have n3 : ¬ AL3 u (eg t).1 (eg t).2 (u' + 3) := fun q => by
        have k : (kd M (u' + 3)).1 = 64 := by rw [show u' + 3 = u' + 2 + 1 from rfl, us'.2.2.2.2.2.1.2.2]
        rcases kinds _ q with z | z | ⟨i, i1, z⟩ | ⟨i, i1, z⟩ | z
        · omega
        · omega
        · omega
        · have e : u' + 2 = (eg t).2 i + 1 := by omega
          have k5 := us'.2.2.2.2.1
          rw [e, (v2.2.2.2.2.2.1 i i1).2.2.2.1] at k5
          exact absurd k5 (by decide)
        · omega
      refine ⟨W1, w2.exa hx hu (fun z z1 z2 => ?_) (fun i hi z z1 z2 q => ?_), by rw [hx.rI (by omega) n0]; exact w3, by rw [hx.rI (by omega) n0]; exact w4, by rw [hx.rI (by omega) na]; exact w5⟩
      · have e : z = u' ∨ z = u' + 1 ∨ z = u' + 2 ∨ z = u' + 3 := by omega
        rcases e with e | e | e | e <;> rw [e]
        · exact n0
        · exact n1
        · exact n2
        · exact n3
      · have hen := (w2.2.2.2.2.2.1 i hi).2
        rcases en_kinds hen z1 z2 with k | k | k
        · rcases kinds z q with y | y | ⟨j, j1, y⟩ | ⟨j, j1, y⟩ | y
          · omega
          · omega
          · exact c (h3 t' t i j ht' ht hi j1 (by omega))
          · omega
          · omega
        · exact no z 3 (by rw [k.2]) (by decide) (by decide) (by decide) (by decide) q
        · rcases kinds z q with y | y | ⟨j, j1, y⟩ | ⟨j, j1, y⟩ | y
          · omega
          · omega
          · omega
          · exact c (h3 t' t i j ht' ht hi j1 (by omega))
          · have e : (eg t').2 i + 1 = u + 2 := by omega
            have k5 := us.2.2.2.2.1
            rw [← e, hen.2.2.1] at k5
            exact absurd k5 (by decide)
  · have val : ∀ t1 i, t1 < T → i < (fup eg t (A', D') t1).1 → (t1 = t ∧ nN M ≤ (fup eg t (A', D') t1).2 i) ∨ ∃ j, j < (eg t1).1 ∧ (fup eg t (A', D') t1).2 i = (eg t1).2 j := fun t1 i q1 hi => by
      by_cases c : t1 = t
      · subst c
        rw [fup_eq] at hi ⊢
        rcases hd.2 i hi with ⟨j, j1, j2⟩ | j
        · exact Or.inr ⟨j, j1, j2⟩
        · exact Or.inl ⟨rfl, j⟩
      · rw [fup_ne c] at hi ⊢
        exact Or.inr ⟨i, hi, rfl⟩
    rcases val t1 i q1 hi with ⟨x1, x2⟩ | ⟨x1, x2, x3⟩ <;> rcases val t2 j q2 hj with ⟨y1, y2⟩ | ⟨y1, y2, y3⟩
    · omega
    · have := ltD t2 y1 q2 y2; omega
    · have := ltD t1 x1 q1 x2; omega
    · exact h3 t1 t2 x1 y1 q1 q2 x2 y2 (by rw [← x3, ← y3]; exact he)
end CLKS
