/-! a query of the class takes an answer -/
section CANS31
variable {S : Nat → Bool} {M M1 M2 : MM} {m al N p t nb n Q pk k : Nat} {pa tk : Nat → Nat} {own : Nat → Ky} {sd ps sn pu rf : Nat → Int} {tm how : Int} {lf : Nat → Nat} {b0 : Nat × Nat} {h : Gh} {eg : EG} {pb as : Nat → Option Nat} {mn : Nat → Int} {fa : Nat → Nat} {Y Y1 Yf : Ys} {l : List Int}
/-- a query that goes on: what is so but for its stage's cell -/
def PQ (M : MM) (m al N : Nat) (pa : Nat → Nat) (own : Nat → Ky) (sd ps sn pu rf : Nat → Int) (tm : Int) (lf : Nat → Nat) (b0 : Nat × Nat) (eg : EG) (tk : Nat → Nat) (pb as : Nat → Option Nat) (nb : Nat) (mn : Nat → Int) (fa : Nat → Nat) (Q t : Nat) (Y : Ys) (h : Gh) : Prop :=
  CB M m al N pa own sd ps sn pu rf tm lf b0 eg tk pb as nb mn fa Y h ∧ AsS M Q ∧ AsF (sI M Q 7 (yv Y 230 t - 3)) Q (ys Y) (yq Y) t ∧ ∀ r, r < nb → mn r = yv Y 269 r
theorem AsF_7 {v : Int} {sc : VV} {q : Qs} (h : AsF M Q sc q t) (hv : vI sc 230 t ≠ 1 → v = vI sc 230 t - 3 ∧ w32 v = v) : AsF (sI M Q 7 v) Q sc q t := by
  obtain ⟨a1, a2, a3, a4, a5⟩ := h
  have I : ∀ z i, ¬ (z = Q ∧ i = 7) → rI (sI M Q 7 v) z i = rI M z i := fun z i c => rI_ne c
  have C : ∀ j, 1 ≤ j → kC (sI M Q 7 v) (Q + j) = kC M (Q + j) := fun j hj => by funext i; exact I _ _ (by omega)
  refine ⟨by rw [I _ _ (by omega)]; exact a1, fun i hi => by rw [show Q + 19 + 4 * i = Q + (19 + 4 * i) from by omega, C _ (by omega), show Q + (19 + 4 * i) = Q + 19 + 4 * i from by omega]; exact a2 i hi, fun i hi3 hi => ?_, fun z => by rw [I _ _ (by omega), I _ _ (by omega), I _ _ (by omega), I _ _ (by omega)]; exact a4 z, fun z => ?_⟩
  · obtain ⟨b1, b2, b3⟩ := a3 i hi3 hi
    rw [I _ _ (by omega), I _ _ (by omega), show Q + 21 + 4 * i = Q + (21 + 4 * i) from by omega, C _ (by omega), show Q + (21 + 4 * i) = Q + 21 + 4 * i from by omega]
    exact ⟨b1, b2, b3⟩
  · obtain ⟨b1, b2, b3, b4, b5, b6, b7, b8⟩ := a5 z
    refine ⟨fun j hj => by rw [I _ _ (by omega)]; exact b1 j hj, by rw [rI_eq rfl, (hv z).2]; exact (hv z).1, by rw [I _ _ (by omega)]; exact b3, ⟨by rw [I _ _ (by omega)]; exact b4.1, b4.2.1, fun i hi => by rw [I _ _ (by omega), I _ _ (by omega), I _ _ (by omega)]; exact b4.2.2 i hi⟩, by rw [I _ _ (by omega)]; exact b5, fun y => ⟨by rw [I _ _ (by omega)]; exact (b6 y).1, fun i hi => by rw [I _ _ (by omega)]; exact (b6 y).2 i hi⟩, fun y1 y2 => ?_, b8⟩
    exact (b7 y1 y2).ex (Ex.st (A := fun z => z = Q) rfl) (by omega) (by omega)
/-- BITS -/
theorem c_ansB (hC : CB M m al N pa own sd ps sn pu rf tm lf b0 eg tk pb as nb mn fa Y h) (hS : AsS M Q) (hF : AsF M Q (ys Y) (yq Y) t) (hmn : ∀ r, r < nb → mn r = yv Y 269 r) (hq : qOK own Y t) (h3 : yv Y 230 t = 3) (hpk : PkC M pk l) (hsh : shp 3 l) (hpq : ¬ AQs Q pk ∧ ¬ AQs Q (pk + 1)) (cont : ∀ M1, PQ M1 m al N pa own sd ps sn pu rf tm lf b0 eg tk pb as nb mn fa Q t (tbY t (l.getD 27 0) (rdF l 27) Y) h → QE (fREC k 4 (Q : Int) ((wa pa t : Nat) : Int) 0 M1) M1 m al N pa own sd ps sn pu rf tm lf b0 eg tk pb as nb Q t Yf) :
    QE (fREC (k + 1) 0 (Q : Int) ((wa pa t : Nat) : Int) (pk : Int) M) M m al N pa own sd ps sn pu rf tm lf b0 eg tk pb as nb Q t Yf := by
  obtain ⟨n, s1, s2, s3, s4, s5⟩ := hsh.2.2.1 rfl
  have k31 : (kd M Q).1 = 31 := by rw [hS.1]
  obtain ⟨a1, a2, a3, a4, a5⟩ := id hF
  have s1' : vI (ys Y) 230 t ≠ 1 := by rw [show vI (ys Y) 230 t = 3 from h3]; decide
  obtain ⟨b1, b2, b3, b4, b5, b6, b7, b8⟩ := a5 s1'
  obtain ⟨M1, c1, c2, c3⟩ := c_fread (k := 27) hS.2.2.2.2.1.1 hpk s1 s2 (by omega)
  have c3' : ∀ z, (z = Q + 14 ∨ z = Q + 14 + 1) → AQs Q z := fun z hz => by unfold AQs; omega
  obtain ⟨C1, f1⟩ := CB_14 hC hS c3 c3'
  have S1 : AsS M1 Q := hS.ex c3
  have X1 : XQ Q M M1 := XQ_ex hS c3 c3'
  obtain ⟨Y1, hY1⟩ : ∃ Y1, Y1 = tbY t (l.getD 27 0) (rdF l 27) Y := ⟨_, rfl⟩
  have v : ∀ a i, a ≠ 256 → a ≠ 230 → yv Y1 a i = yv Y a i := fun a i z1 z2 => by rw [hY1]; show vI (st2 (st2 (ys Y) 256 t _) 230 t 4) a i = _; rw [vI_ne (by omega), vI_ne (by omega)]
  have v0 : yv Y1 230 t = 4 := by rw [hY1]; show vI (st2 (st2 (ys Y) 256 t _) 230 t 4) 230 t = _; rw [vI_eq rfl]; rfl
  have v6 : yv Y1 256 t = l.getD 27 0 := by rw [hY1]; show vI (st2 (st2 (ys Y) 256 t (l.getD 27 0)) 230 t 4) 256 t = _; rw [vI_ne (by omega), vI_eq rfl, w32s (by omega)]
  have qb : qB (yq Y1) t = rdF l 27 := by rw [hY1]; exact fup_eq
  have C1' : CB M1 m al N pa own sd ps sn pu rf tm lf b0 eg tk pb as nb mn fa Y1 h := by
    rw [hY1]; exact CB_sc C1 (fun a i z => by rw [vI_ne (by omega), vI_ne (by omega)]) rfl
  have I : ∀ z i, z ≠ Q + 14 → z ≠ Q + 15 → rI M1 z i = rI M z i := fun z i z1 z2 => c3.rI (by omega) i
  have C : ∀ j, j ≠ 13 → j ≠ 14 → kC M1 (Q + j) = kC M (Q + j) := fun j z1 z2 => by funext i; exact I _ _ (by omega) (by omega)
  have F1 : AsF (sI M1 Q 7 1) Q (ys Y1) (yq Y1) t := by
    have J : ∀ z i, z ≠ Q + 14 → z ≠ Q + 15 → ¬ (z = Q ∧ i = 7) → rI (sI M1 Q 7 1) z i = rI M z i := fun z i z1 z2 z3 => (rI_ne z3).trans (I z i z1 z2)
    have K : ∀ j, j ≠ 13 → j ≠ 14 → 1 ≤ j → kC (sI M1 Q 7 1) (Q + j) = kC M (Q + j) := fun j z1 z2 z3 => by funext i; exact J _ _ (by omega) (by omega) (by omega)
    have qe : qL (yq Y1) = qL (yq Y) ∧ qF (yq Y1) = qF (yq Y) ∧ qO (yq Y1) = qO (yq Y) ∧ qK (yq Y1) = qK (yq Y) ∧ qH (yq Y1) = qH (yq Y) := by rw [hY1]; exact ⟨rfl, rfl, rfl, rfl, rfl⟩
    unfold AsF
    rw [show vI (ys Y1) 247 t = vI (ys Y) 247 t from v _ _ (by omega) (by omega), show vI (ys Y1) 230 t = 4 from v0, show vI (ys Y1) 254 t = vI (ys Y) 254 t from v _ _ (by omega) (by omega), show vI (ys Y1) 256 t = l.getD 27 0 from v6, qb, qe.1, qe.2.2.1, qe.2.2.2.1, qe.2.2.2.2]
    refine ⟨by rw [J _ _ (by omega) (by omega) (by omega)]; exact a1, fun i hi => by rw [show Q + 19 + 4 * i = Q + (19 + 4 * i) from by omega, K _ (by omega) (by omega) (by omega), show Q + (19 + 4 * i) = Q + 19 + 4 * i from by omega]; exact a2 i hi, fun i hi3 hi => ?_, fun z => absurd z (by decide), fun _ => ⟨fun j hj => by rw [J _ _ (by omega) (by omega) (by omega)]; exact b1 j hj, by rw [rI_eq rfl]; rfl, by rw [J _ _ (by omega) (by omega) (by omega)]; exact b3, ⟨by rw [J _ _ (by omega) (by omega) (by omega)]; exact b4.1, b4.2.1, fun i hi => by rw [J _ _ (by omega) (by omega) (by omega), J _ _ (by omega) (by omega) (by omega), J _ _ (by omega) (by omega) (by omega)]; exact b4.2.2 i hi⟩, ?_, fun z => absurd z (by decide), fun _ _ => ?_, fun z => absurd z (by have := hq.2.2.2.1 (by rw [h3]; decide); show ¬ yv Y 247 t = 1; omega)⟩⟩
    · rw [if_neg (by decide)] at hi
      obtain ⟨q1, q2, q3⟩ := a3 i hi3 (by rw [if_neg s1']; exact hi)
      rw [J _ _ (by omega) (by omega) (by omega), J _ _ (by omega) (by omega) (by omega), show Q + 21 + 4 * i = Q + (21 + 4 * i) from by omega, K _ (by omega) (by omega) (by omega), show Q + (21 + 4 * i) = Q + 21 + 4 * i from by omega, show vI (ys Y1) 250 (3 * t + i) = vI (ys Y) 250 (3 * t + i) from v _ _ (by omega) (by omega), show vI (ys Y1) 252 (3 * t + i) = vI (ys Y) 252 (3 * t + i) from v _ _ (by omega) (by omega)]
      exact ⟨q1, q2, q3⟩
    · rw [J _ _ (by omega) (by omega) (by omega), if_neg (by decide)]
      rw [show vI (ys Y) 230 t = 3 from h3, if_neg (by decide)] at b5
      exact b5
    · exact c2.ex (Ex.st (A := fun z => z = Q) rfl) (by omega) (by omega)
  have g := cont M1 (by
    rw [← hY1]
    refine ⟨C1', S1, ?_, fun r hr => by rw [v _ _ (by omega) (by omega)]; exact hmn r hr⟩
    rw [v0]; exact F1)
  obtain ⟨M', h', lf', mn', fa', b0', r1, r2⟩ := QE_pre X1 g
  refine ⟨M', h', lf', mn', fa', b0', ?_, r2⟩
  show f_X31_answered (fREC k) (Q : Int) ((wa pa t : Nat) : Int) (pk : Int) M = some M'
  unfold f_X31_answered j_X31_answered_48
  have i7 : rI M Q 7 = 0 := by rw [b2, show vI (ys Y) 230 t = 3 from h3]; rfl
  rw [gfi_e k31, i7, Option.bind_some, if_pos (by decide), gfr_e k31, hS.2.1.2.2.2.2.2.2.2.2.2.2, Option.bind_some, ck_e hS.2.2.2.2.1.1.1]
  have c1 : f_X10_read ((Q + 14 : Nat) : Int) (pk : Int) 27 M = some M1 := c1
  rw [c1, Option.bind_some, ck_e (by rw [S1.1]), r1, Option.bind_some]
end CANS31
