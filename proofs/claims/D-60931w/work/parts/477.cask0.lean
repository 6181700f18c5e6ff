/-! queries of the class -/
def AsS (M : MM) (Q : Nat) : Prop :=
  kd M Q = (31, 52) ∧ (rR M Q 0 = ((Q + 1 : Nat) : Int) ∧ rR M Q 1 = ((Q + 2 : Nat) : Int) ∧ rR M Q 2 = ((Q + 3 : Nat) : Int) ∧ rR M Q 3 = ((Q + 4 : Nat) : Int) ∧ rR M Q 4 = ((Q + 5 : Nat) : Int) ∧ rR M Q 9 = ((Q + 6 : Nat) : Int) ∧ rR M Q 10 = ((Q + 7 : Nat) : Int) ∧ rR M Q 11 = ((Q + 8 : Nat) : Int) ∧ rR M Q 12 = ((Q + 9 : Nat) : Int) ∧ rR M Q 17 = ((Q + 10 : Nat) : Int) ∧ rR M Q 8 = ((Q + 14 : Nat) : Int)) ∧
  (kd M (Q + 1) = (637, 3) ∧ kd M (Q + 2) = (653, 3) ∧ kd M (Q + 3) = (656, 3) ∧ kd M (Q + 4) = (672, 3) ∧ kd M (Q + 5) = (688, 3) ∧ kd M (Q + 6) = (704, 200) ∧ kd M (Q + 7) = (720, 200) ∧ kd M (Q + 8) = (736, 200) ∧ kd M (Q + 9) = (754, 200)) ∧
  (RkS M (Q + 10) 60 ∧ kd M (Q + 10) = (5, 50)) ∧ (FltS M (Q + 14) ∧ kd M (Q + 14) = (10, 51) ∧ kd M (Q + 17) = (3, 1)) ∧
  ∀ i, i < 3 → rR M (Q + 1) i = ((Q + 19 + 4 * i : Nat) : Int) ∧ kd M (Q + 19 + 4 * i) = (3, 48) ∧ isK M (Q + 19 + 4 * i) ∧ rR M (Q + 2) i = ((Q + 21 + 4 * i : Nat) : Int) ∧ kd M (Q + 21 + 4 * i) = (3, 49) ∧ isK M (Q + 21 + 4 * i)
/-- the list of a query -/
def AsL (M : MM) (Q : Nat) (L : List It) : Prop := rI M Q 13 = (L.length : Int) ∧ L.length ≤ 200 ∧ ∀ i, i < L.length → rI M (Q + 6) i = (L.getD i it0).1 ∧ rI M (Q + 7) i = (L.getD i it0).2.1 ∧ rI M (Q + 8) i = (L.getD i it0).2.2
def AsF (M : MM) (Q : Nat) (sc : VV) (q : Qs) (t : Nat) : Prop :=
  rI M Q 5 = vI sc 247 t ∧ (∀ i : Nat, (i : Int) < vI sc 247 t → ky (kC M (Q + 19 + 4 * i)) = qK q (3 * t + i)) ∧
  (∀ i : Nat, i < 3 → (i : Int) < (if vI sc 230 t = 1 then vI sc 248 t else vI sc 247 t) → rI M (Q + 4) i = vI sc 250 (3 * t + i) ∧ ky (kC M (Q + 21 + 4 * i)) = qH q (3 * t + i) ∧ rI M (Q + 3) i = vI sc 252 (3 * t + i)) ∧
  (vI sc 230 t = 1 → rI M Q 6 = vI sc 248 t ∧ rI M Q 13 = 0 ∧ rI M Q 14 = 0 ∧ rI M Q 15 = 0) ∧
  (vI sc 230 t ≠ 1 → (∀ j : Nat, (j : Int) < vI sc 247 t → rI M (Q + 5) j = (((qO q t).getD j 0 : Nat) : Int)) ∧ rI M Q 7 = vI sc 230 t - 3 ∧ rI M Q 14 = vI sc 254 t ∧ AsL M Q (qL q t) ∧ rI M Q 15 = (if vI sc 230 t = 5 then (if vI sc 263 t = 0 then 0 else 1) else 0) ∧ (vI sc 230 t = 5 → rI M Q 16 = vI sc 264 t ∧ ∀ i, i < (qF q t).length → rI M (Q + 9) i = b2i ((qF q t).getD i false)) ∧ (vI sc 230 t ≠ 3 → 2 ≤ vI sc 247 t → FltC M (Q + 14) (vI sc 256 t).toNat (qB q t)) ∧ (vI sc 247 t = 1 → qB q t = []))
def AsksC (M : MM) (T : Nat) (as : Nat → Option Nat) (sc : VV) (q : Qs) : Prop :=
  (∀ t, t < T → ∀ Q, as t = some Q → AsS M Q ∧ (vI sc 226 t ≠ 0 → vI sc 227 t = 3 → AsF M Q sc q t)) ∧ ∀ t t', t < T → t' < T → as t ≠ none → as t = as t' → t = t'
/-- cells of a query -/
def AQs (Q z : Nat) : Prop := Q ≤ z ∧ z ≤ Q + 30
section CASK0
variable {S : Nat → Bool} {M M1 : MM} {Q Q' t T : Nat} {as : Nat → Option Nat} {sc sc' : VV} {q q' : Qs} {B : Nat → Prop} {Y Y1 : Ys}
theorem AsS_kd (h : AsS M Q) : ∀ j, 1 ≤ j → j ≤ 30 → (kd M (Q + j)).1 ≠ 31 := fun j h1 h2 => by
  obtain ⟨a1, a2, ⟨b1, b2, b3, b4, b5, b6, b7, b8, b9⟩, ⟨c1, c2⟩, ⟨d1, d2, d3⟩, e⟩ := h
  obtain ⟨e00, e01, e02, e03, e04, e05⟩ := e 0 (by omega)
  obtain ⟨e10, e11, e12, e13, e14, e15⟩ := e 1 (by omega)
  obtain ⟨e20, e21, e22, e23, e24, e25⟩ := e 2 (by omega)
  have r1 := c1.2.2.1; have r2 := c1.2.2.2.2.1; have r3 := c1.2.2.2.2.2.2
  have f1 := d1.2.2.1; have f2 := d1.2.2.2.2.2.1; have f3 := d1.2.2.2.2.2.2.2
  have g18 : kd M (Q + 18) = (64, 5) := f3.2.2
  have g20 : kd M (Q + 20) = (64, 5) := e02.2.2
  have g22 : kd M (Q + 22) = (64, 5) := e05.2.2
  have g24 : kd M (Q + 24) = (64, 5) := e12.2.2
  have g26 : kd M (Q + 26) = (64, 5) := e15.2.2
  have g28 : kd M (Q + 28) = (64, 5) := e22.2.2
  have g30 : kd M (Q + 30) = (64, 5) := e25.2.2
  have g11 : kd M (Q + 11) = (320, 60) := r1
  have g12 : kd M (Q + 12) = (336, 60) := r2
  have g13 : kd M (Q + 13) = (352, 60) := r3
  have g15 : kd M (Q + 15) = (81, 290) := f1
  have g16 : kd M (Q + 16) = (97, 2) := f2
  have k19 : kd M (Q + 19) = (3, 48) := e01
  have k21 : kd M (Q + 21) = (3, 49) := e04
  have k23 : kd M (Q + 23) = (3, 48) := e11
  have k25 : kd M (Q + 25) = (3, 49) := e14
  have k27 : kd M (Q + 27) = (3, 48) := e21
  have k29 : kd M (Q + 29) = (3, 49) := e24
  have : j = 1 ∨ j = 2 ∨ j = 3 ∨ j = 4 ∨ j = 5 ∨ j = 6 ∨ j = 7 ∨ j = 8 ∨ j = 9 ∨ j = 10 ∨ j = 11 ∨ j = 12 ∨ j = 13 ∨ j = 14 ∨ j = 15 ∨ j = 16 ∨ j = 17 ∨ j = 18 ∨ j = 19 ∨ j = 20 ∨ j = 21 ∨ j = 22 ∨ j = 23 ∨ j = 24 ∨ j = 25 ∨ j = 26 ∨ j = 27 ∨ j = 28 ∨ j = 29 ∨ j = 30 := by omega
  rcases this with e | e | e | e | e | e | e | e | e | e | e | e | e | e | e | e | e | e | e | e | e | e | e | e | e | e | e | e | e | e <;> rw [e]
  · rw [b1]; decide
  · rw [b2]; decide
  · rw [b3]; decide
  · rw [b4]; decide
  · rw [b5]; decide
  · rw [b6]; decide
  · rw [b7]; decide
  · rw [b8]; decide
  · rw [b9]; decide
  · rw [c2]; decide
  · rw [g11]; decide
  · rw [g12]; decide
  · rw [g13]; decide
  · rw [d2]; decide
  · rw [g15]; decide
  · rw [g16]; decide
  · rw [d3]; decide
  · rw [g18]; decide
  · rw [k19]; decide
  · rw [g20]; decide
  · rw [k21]; decide
  · rw [g22]; decide
  · rw [k23]; decide
  · rw [g24]; decide
  · rw [k25]; decide
  · rw [g26]; decide
  · rw [k27]; decide
  · rw [g28]; decide
  · rw [k29]; decide
  · rw [g30]; decide
theorem AsS_mo (h : AsS M Q) : ∀ j, j ≤ 30 → mo M (Q + j) = 14 := fun j h2 => by
  have s1 : Q + 17 - 3 = Q + 14 := by omega
  have s2 : Q + 11 - 1 = Q + 10 := by omega
  have s3 : Q + 12 - 2 = Q + 10 := by omega
  have s4 : Q + 13 - 3 = Q + 10 := by omega
  have s5 : Q + 15 - 1 = Q + 14 := by omega
  have s6 : Q + 16 - 2 = Q + 14 := by omega
  have s7 : Q + 18 - 1 = Q + 17 := by omega
  have js : j = 0 ∨ j = 1 ∨ j = 2 ∨ j = 3 ∨ j = 4 ∨ j = 5 ∨ j = 6 ∨ j = 7 ∨ j = 8 ∨ j = 9 ∨ j = 10 ∨ j = 11 ∨ j = 12 ∨ j = 13 ∨ j = 14 ∨ j = 15 ∨ j = 16 ∨ j = 17 ∨ j = 18 ∨ ∃ i, i < 3 ∧ (j = 19 + 4 * i ∨ j = 20 + 4 * i ∨ j = 21 + 4 * i ∨ j = 22 + 4 * i) := by
    by_cases c : j < 19
    · omega
    · have : ∃ i, i < 3 ∧ (j = 19 + 4 * i ∨ j = 20 + 4 * i ∨ j = 21 + 4 * i ∨ j = 22 + 4 * i) := ⟨(j - 19) / 4, by omega, by omega⟩
      simp only [this, or_true]
  have t1 : ∀ i, Q + (19 + 4 * i) = Q + 19 + 4 * i ∧ Q + (20 + 4 * i) = Q + 19 + 4 * i + 1 ∧ Q + (21 + 4 * i) = Q + 21 + 4 * i ∧ Q + (22 + 4 * i) = Q + 21 + 4 * i + 1 := fun i => by omega
  obtain ⟨a1, a2, ⟨b1, b2, b3, b4, b5, b6, b7, b8, b9⟩, ⟨c1, c2⟩, ⟨d1, d2, d3⟩, e⟩ := h
  have o10 : moO M (Q + 10) = 14 := by unfold moO; rw [c2, if_neg (show ¬ ((5 : Nat) = 3 ∧ (50 : Nat) = 1) from by decide)]; rfl
  have o14 : moO M (Q + 14) = 14 := by unfold moO; rw [d2, if_neg (show ¬ ((10 : Nat) = 3 ∧ (51 : Nat) = 1) from by decide)]; rfl
  have o17 : moO M (Q + 17) = 14 := by unfold moO; rw [d3, if_pos (show (3 : Nat) = 3 ∧ (1 : Nat) = 1 from ⟨rfl, rfl⟩), s1, d2]; rfl
  have g11 : kd M (Q + 11) = (320, 60) := c1.2.2.1
  have g12 : kd M (Q + 12) = (336, 60) := c1.2.2.2.2.1
  have g13 : kd M (Q + 13) = (352, 60) := c1.2.2.2.2.2.2
  have g15 : kd M (Q + 15) = (81, 290) := d1.2.2.1
  have g16 : kd M (Q + 16) = (97, 2) := d1.2.2.2.2.2.1
  have g18 : kd M (Q + 18) = (64, 5) := d1.2.2.2.2.2.2.2.2.2
  have kk : ∀ i, i < 3 → mo M (Q + (19 + 4 * i)) = 14 ∧ mo M (Q + (20 + 4 * i)) = 14 ∧ mo M (Q + (21 + 4 * i)) = 14 ∧ mo M (Q + (22 + 4 * i)) = 14 := fun i hi => by
    obtain ⟨e0, e1, e2, e3, e4, e5⟩ := e i hi
    obtain ⟨u1, u2, u3, u4⟩ := t1 i
    rw [u1, u2, u3, u4]
    exact ⟨mo_cl e1 (by decide) (by decide), mo_kw (q := Q + 19 + 4 * i) e2.2.2 (Or.inl rfl) e1 (by decide) (by decide), mo_cl e4 (by decide) (by decide), mo_kw (q := Q + 21 + 4 * i) e5.2.2 (Or.inl rfl) e4 (by decide) (by decide)⟩
  rcases js with e | e | e | e | e | e | e | e | e | e | e | e | e | e | e | e | e | e | e | ⟨i, hi, c⟩
  · rw [e]; exact mo_cl1 (c := 31) (by show (kd M Q).1 = 31; rw [a1]) (by decide) (by decide)
  · rw [e]; exact mo_ar b1 (by decide) (by decide)
  · rw [e]; exact mo_ar b2 (by decide) (by decide)
  · rw [e]; exact mo_ar b3 (by decide) (by decide)
  · rw [e]; exact mo_ar b4 (by decide) (by decide)
  · rw [e]; exact mo_ar b5 (by decide) (by decide)
  · rw [e]; exact mo_ar b6 (by decide) (by decide)
  · rw [e]; exact mo_ar b7 (by decide) (by decide)
  · rw [e]; exact mo_ar b8 (by decide) (by decide)
  · rw [e]; exact mo_ar b9 (by decide) (by decide)
  · rw [e]; exact mo_cl c2 (by decide) (by decide)
  · rw [e]; unfold mo; rw [g11, if_neg (by decide), if_pos (by decide), s2]; exact o10
  · rw [e]; unfold mo; rw [g12, if_neg (by decide), if_neg (by decide), if_pos (by decide), s3]; exact o10
  · rw [e]; unfold mo; rw [g13, if_neg (by decide), if_neg (by decide), if_neg (by decide), if_pos (by decide), s4]; exact o10
  · rw [e]; exact mo_cl d2 (by decide) (by decide)
  · rw [e]; unfold mo; rw [g15, if_neg (by decide), if_pos (by decide), s5]; exact o14
  · rw [e]; unfold mo; rw [g16, if_neg (by decide), if_neg (by decide), if_pos (by decide), s6]; exact o14
  · rw [e]; unfold mo; rw [d3, if_pos (by decide)]; exact o17
  · rw [e]; unfold mo; rw [g18, if_neg (by decide), if_pos (by decide), s7]; exact o17
  · obtain ⟨q1, q2, q3, q4⟩ := kk i hi
    rcases c with c | c | c | c <;> rw [c]
    · exact q1
    · exact q2
    · exact q3
    · exact q4
theorem AsS_lt (hu : UN M) (h : AsS M Q) : Q + 30 < nN M := hu.lt (by rw [show Q + 30 = Q + 21 + 4 * 2 + 1 from by omega, ((h.2.2.2.2.2 2 (by omega)).2.2.2.2.2).2.2]; decide)
theorem AQ_mo (h : AsS M Q) {z : Nat} (hz : AQs Q z) : mo M z = 14 := by
  have := AsS_mo h (z - Q) (by have := hz.2; omega)
  rw [show Q + (z - Q) = z from by have := hz.1; omega] at this; exact this
/-- two queries are apart -/
theorem AQ_ap (h : AsS M Q) (h' : AsS M Q') (hne : Q' ≠ Q) {z : Nat} (hz : AQs Q' z) : ¬ AQs Q z := fun hz2 => by
  unfold AQs at hz hz2
  by_cases c : Q < Q'
  · have := AsS_kd h (Q' - Q) (by omega) (by omega)
    rw [show Q + (Q' - Q) = Q' from by omega, h'.1] at this
    exact this rfl
  · have := AsS_kd h' (Q - Q') (by omega) (by omega)
    rw [show Q' + (Q - Q') = Q from by omega, h.1] at this
    exact this rfl
theorem FltS.exa {f : Nat} (hx : ExA B M M1) (hu : UN M) (hB : ∀ z, f ≤ z → z ≤ f + 4 → ¬ B z) (h : FltS M f) : FltS M1 f := by
  obtain ⟨h1, h2, h3, h4, h5, h6, h7, h8⟩ := h
  have hl : f + 4 < nN M := isK_lt hu h8
  exact ⟨by rw [hx.kd (by omega)]; exact h1, by rw [hx.rR (by omega) (hB _ (by omega) (by omega))]; exact h2, by rw [hx.kd (by omega)]; exact h3, by rw [hx.rR (by omega) (hB _ (by omega) (by omega))]; exact h4, by rw [hx.rR (by omega) (hB _ (by omega) (by omega))]; exact h5, by rw [hx.kd (by omega)]; exact h6, by rw [hx.rR (by omega) (hB _ (by omega) (by omega))]; exact h7, hx.isK hu (hB _ (by omega) (by omega)) h8⟩
theorem RkS.exa {k z : Nat} (hx : ExA B M M1) (hu : UN M) (hB : ∀ q, k ≤ q → q ≤ k + 3 → ¬ B q) (h : RkS M k z) : RkS M1 k z := by
  obtain ⟨c11, c12, c13, c14, c15, c16, c17⟩ := h
  have hl : k + 3 < nN M := hu.lt (by rw [c17]; show 352 ≠ 63; decide)
  have R : ∀ i, rR M1 k i = rR M k i := fun i => hx.rR (by omega) (hB k (by omega) (by omega)) i
  exact ⟨by rw [hx.kd (show k < nN M by omega)]; exact c11, by rw [R]; exact c12, by rw [hx.kd (show k + 1 < nN M by omega)]; exact c13, by rw [R]; exact c14, by rw [hx.kd (show k + 2 < nN M by omega)]; exact c15, by rw [R]; exact c16, by rw [hx.kd (show k + 3 < nN M by omega)]; exact c17⟩
theorem AsS.exa (hx : ExA B M M1) (hu : UN M) (hB : ∀ z, AQs Q z → ¬ B z) (h : AsS M Q) : AsS M1 Q := by
  have hl := AsS_lt hu h
  obtain ⟨a1, ⟨r0, r1, r2, r3, r4, r9, r10, r11, r12, r17, r8⟩, ⟨b1, b2, b3, b4, b5, b6, b7, b8, b9⟩, ⟨c1, c2⟩, ⟨d1, d2, d3⟩, e⟩ := h
  have n : ∀ j, j ≤ 30 → ¬ B (Q + j) := fun j hj => hB _ ⟨by omega, by omega⟩
  have R : ∀ i, rR M1 Q i = rR M Q i := fun i => hx.rR (by omega) (n 0 (by omega)) i
  have K : ∀ j, j ≤ 30 → kd M1 (Q + j) = kd M (Q + j) := fun j hj => hx.kd (by omega)
  refine ⟨by rw [show kd M1 Q = kd M Q from hx.kd (by omega)]; exact a1, ⟨by rw [R]; exact r0, by rw [R]; exact r1, by rw [R]; exact r2, by rw [R]; exact r3, by rw [R]; exact r4, by rw [R]; exact r9, by rw [R]; exact r10, by rw [R]; exact r11, by rw [R]; exact r12, by rw [R]; exact r17, by rw [R]; exact r8⟩, ⟨by rw [K 1 (by omega)]; exact b1, by rw [K 2 (by omega)]; exact b2, by rw [K 3 (by omega)]; exact b3, by rw [K 4 (by omega)]; exact b4, by rw [K 5 (by omega)]; exact b5, by rw [K 6 (by omega)]; exact b6, by rw [K 7 (by omega)]; exact b7, by rw [K 8 (by omega)]; exact b8, by rw [K 9 (by omega)]; exact b9⟩, ⟨?_, by rw [K 10 (by omega)]; exact c2⟩, ⟨d1.exa hx hu (fun z z1 z2 => hB z ⟨by omega, by omega⟩), by rw [K 14 (by omega)]; exact d2, by rw [K 17 (by omega)]; exact d3⟩, fun i hi => ?_⟩
  · exact c1.exa hx hu (fun z z1 z2 => hB z ⟨by omega, by omega⟩)
  · obtain ⟨e0, e1, e2, e3, e4, e5⟩ := e i hi
    exact ⟨by rw [hx.rR (by omega) (n 1 (by omega))]; exact e0, by rw [hx.kd (by omega)]; exact e1, hx.isK hu (hB _ ⟨by omega, by omega⟩) e2, by rw [hx.rR (by omega) (n 2 (by omega))]; exact e3, by rw [hx.kd (by omega)]; exact e4, hx.isK hu (hB _ ⟨by omega, by omega⟩) e5⟩
theorem AsF_ag (h : AsF M Q sc q t) (hS : AsS M1 Q) (hI : ∀ z i, AQs Q z → M1.1 z i = M.1 z i) (h9 : ∀ a, a = 230 ∨ a = 247 ∨ a = 248 ∨ a = 254 ∨ a = 256 ∨ a = 263 ∨ a = 264 → vI sc' a t = vI sc a t) (h5 : ∀ i, i < 3 → vI sc' 250 (3 * t + i) = vI sc 250 (3 * t + i) ∧ vI sc' 252 (3 * t + i) = vI sc 252 (3 * t + i)) (h3 : vI sc 247 t ≤ 3) (hq : qL q' t = qL q t ∧ qF q' t = qF q t ∧ qB q' t = qB q t ∧ qO q' t = qO q t) (hK : ∀ i, i < 3 → qK q' (3 * t + i) = qK q (3 * t + i) ∧ qH q' (3 * t + i) = qH q (3 * t + i)) : AsF M1 Q sc' q' t := by
  obtain ⟨a1, a2, a3, a4, a5⟩ := h
  have I : ∀ j i, j ≤ 30 → rI M1 (Q + j) i = rI M (Q + j) i := fun j i hj => by show w32 _ = w32 _; rw [hI (Q + j) i ⟨by omega, by omega⟩]
  have U : ∀ j i, j ≤ 30 → rU M1 (Q + j) i = rU M (Q + j) i := fun j i hj => by show _ % 256 = _ % 256; rw [hI (Q + j) i ⟨by omega, by omega⟩]
  have I0 : ∀ i, rI M1 Q i = rI M Q i := fun i => I 0 i (by omega)
  have C : ∀ j, j + 1 ≤ 30 → kC M1 (Q + j) = kC M (Q + j) := fun j hj => by funext i; exact I (j + 1) i hj
  unfold AsF AsL
  rw [h9 230 (by omega), h9 247 (by omega), h9 248 (by omega), h9 254 (by omega), h9 256 (by omega), h9 263 (by omega), h9 264 (by omega), hq.1, hq.2.1, hq.2.2.1, hq.2.2.2, I0, I0, I0, I0, I0, I0, I0]
  refine ⟨a1, fun i hi => by rw [show Q + 19 + 4 * i = Q + (19 + 4 * i) from by omega, C _ (by omega), (hK i (by omega)).1, show Q + (19 + 4 * i) = Q + 19 + 4 * i from by omega]; exact a2 i hi, fun i hi3 hi => ?_, a4, fun z => ?_⟩
  · obtain ⟨b1, b2, b3⟩ := a3 i hi3 hi
    rw [I 4 i (by omega), I 3 i (by omega), show Q + 21 + 4 * i = Q + (21 + 4 * i) from by omega, C _ (by omega), (hK i hi3).2, (h5 i hi3).1, (h5 i hi3).2, show Q + (21 + 4 * i) = Q + 21 + 4 * i from by omega]
    exact ⟨b1, b2, b3⟩
  · obtain ⟨b1, b2, b3, b4, b5, b6, b7, b8⟩ := a5 z
    refine ⟨fun j hj => by rw [I 5 j (by omega)]; exact b1 j hj, b2, b3, ⟨b4.1, b4.2.1, fun i hi => by rw [I 6 i (by omega), I 7 i (by omega), I 8 i (by omega)]; exact b4.2.2 i hi⟩, b5, fun y => ⟨(b6 y).1, fun i hi => by rw [I 9 i (by omega)]; exact (b6 y).2 i hi⟩, fun y1 y2 => ?_, b8⟩
    obtain ⟨c1, c2, c3, c4, c5⟩ := b7 y1 y2
    exact ⟨hS.2.2.2.2.1.1, by rw [I 14 1 (by omega)]; exact c2, by rw [I 14 2 (by omega)]; exact c3, c4, fun i hi => by rw [show Q + 14 + 1 = Q + 15 from rfl, U 15 i (by omega)]; exact c5 i hi⟩
theorem Asks_fk (f : FK S M M1) (hu : UN M) (hs : S 14 = false) (h3 : ∀ t, t < T → vI sc 226 t ≠ 0 → vI sc 227 t = 3 → vI sc 247 t ≤ 3) (h : AsksC M T as sc q) : AsksC M1 T as sc q := ⟨fun t ht Q hQ => by
  obtain ⟨a1, a2⟩ := h.1 t ht Q hQ
  have hl := AsS_lt hu a1
  have S1 : AsS M1 Q := a1.exa f hu (fun z hz y => by
    have y : S (mo M z) = true := y
    rw [AQ_mo a1 hz, hs] at y; cases y)
  exact ⟨S1, fun z1 z2 => AsF_ag (a2 z1 z2) S1 (fun z i hz => (f.cell (by unfold AQs at hz; omega) (by rw [AQ_mo a1 hz]; exact hs)).1 i) (fun _ _ => rfl) (fun _ _ => ⟨rfl, rfl⟩) (h3 t ht z1 z2) ⟨rfl, rfl, rfl, rfl⟩ (fun _ _ => ⟨rfl, rfl⟩)⟩, h.2⟩
/-- a query changes: nothing to the others -/
theorem Asks_w (hu : UN M) (ht : t < T) (hQ : as t = some Q) (h : AsksC M T as sc q) (hx : ExA (AQs Q) M M1) (h3 : ∀ t, t < T → vI sc 226 t ≠ 0 → vI sc 227 t = 3 → vI sc 247 t ≤ 3) (hv : ∀ t', t' ≠ t → (∀ a, (226 ≤ a ∧ a ≤ 264 ∧ a ≠ 250 ∧ a ≠ 252) → vI sc' a t' = vI sc a t') ∧ (∀ i, i < 3 → vI sc' 250 (3 * t' + i) = vI sc 250 (3 * t' + i) ∧ vI sc' 252 (3 * t' + i) = vI sc 252 (3 * t' + i)) ∧ (qL q' t' = qL q t' ∧ qF q' t' = qF q t' ∧ qB q' t' = qB q t' ∧ qO q' t' = qO q t') ∧ ∀ i, i < 3 → qK q' (3 * t' + i) = qK q (3 * t' + i) ∧ qH q' (3 * t' + i) = qH q (3 * t' + i)) (hS : AsS M1 Q) (hn : vI sc' 226 t ≠ 0 → vI sc' 227 t = 3 → AsF M1 Q sc' q' t) : AsksC M1 T as sc' q' := ⟨fun t' ht' Q' hQ' => by
  by_cases c : t' = t
  · rw [c] at hQ' ⊢
    rw [hQ] at hQ'
    rw [← Option.some.inj hQ']
    exact ⟨hS, hn⟩
  · obtain ⟨a1, a2⟩ := h.1 t' ht' Q' hQ'
    obtain ⟨b1, _⟩ := h.1 t ht Q hQ
    have nQ : Q' ≠ Q := fun e => c (h.2 t' t ht' ht (by rw [hQ']; simp) (by rw [hQ', hQ, e]))
    have hl := AsS_lt hu a1
    have S1 : AsS M1 Q' := a1.exa hx hu (fun z hz => AQ_ap b1 a1 nQ hz)
    obtain ⟨v1, v2, v3, v4⟩ := hv t' c
    refine ⟨S1, fun z1 z2 => ?_⟩
    rw [v1 226 (by omega)] at z1
    rw [v1 227 (by omega)] at z2
    exact AsF_ag (a2 z1 z2) S1 (fun z i hz => (hx.2.2.2 z (by unfold AQs at hz; omega) (AQ_ap b1 a1 nQ hz)).1 i) (fun a y => v1 a (by omega)) v2 (h3 t' ht' z1 z2) v3 v4, h.2⟩
/-- words and lists that a step of another work leaves -/
theorem Asks_ft (h : AsksC M T as (ys Y) (yq Y)) (f : FT t Y Y1) (hk : yv Y1 226 t ≠ 0 → yv Y 227 t ≠ 3) (h3 : ∀ t, t < T → yv Y 226 t ≠ 0 → yv Y 227 t = 3 → yv Y 247 t ≤ 3) : AsksC M T as (ys Y1) (yq Y1) := ⟨fun t' ht' Q hQ => by
  obtain ⟨a1, a2⟩ := h.1 t' ht' Q hQ
  refine ⟨a1, fun z1 z2 => ?_⟩
  by_cases c : t' = t
  · rw [c] at z1 z2
    exact absurd (f.2.2.2.1.1.symm.trans z2) (hk z1)
  · have g : ∀ a, (226 ≤ a ∧ a ≤ 264 ∧ a ≠ 250 ∧ a ≠ 252) → vI (ys Y1) a t' = vI (ys Y) a t' := fun a y => f.2.2.1 a t' (by unfold wrT; omega)
    rw [g 226 (by omega)] at z1
    rw [g 227 (by omega)] at z2
    exact AsF_ag (a2 z1 z2) a1 (fun _ _ _ => rfl) (fun a y => g a (by omega)) (fun i hi => ⟨f.2.2.1 250 _ (by unfold wrT; omega), f.2.2.1 252 _ (by unfold wrT; omega)⟩) (h3 t' ht' z1 z2) (f.2.2.2.2.1 t' c) (fun i hi => ⟨by rw [f.2.2.2.2.2.1], f.2.2.2.2.2.2.1 _ (by omega)⟩), h.2⟩
end CASK0
