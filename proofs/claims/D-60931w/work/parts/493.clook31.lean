/-! behind a lookup of a query of the class -/
def F10 : Nat → Bool := fun z => z == 1 || z == 3 || z == 5 || z == 6 || z == 7 || z == 11 || z == 12 || z == 14
/-- as XQ, lookups too -/
def XR (Q : Nat) (M M' : MM) : Prop := FK F10 M M' ∧ ∀ z, z < nN M → mo M z = 14 → (∀ i, M'.2.1 z i = M.2.1 z i) ∧ (¬ AQs Q z → ∀ i, M'.1 z i = M.1 z i)
section CLOOK31
variable {S : Nat → Bool} {M M1 M2 : MM} {m al N p t nb n Q pk k : Nat} {pa tk : Nat → Nat} {own : Nat → Ky} {sd ps sn pu rf : Nat → Int} {tm how : Int} {lf : Nat → Nat} {b0 : Nat × Nat} {h : Gh} {eg : EG} {pb as : Nat → Option Nat} {mn : Nat → Int} {fa : Nat → Nat} {Y Y1 Yf : Ys} {l l' : List Int} {Lb : Nat → List Trm} {ev : Nat → Nat}
theorem F9_10 : ∀ z, F9 z = true → F10 z = true := fun z hz => by
  unfold F9 at hz
  simp only [Bool.or_eq_true, beq_iff_eq] at hz
  rcases hz with (((((e | e) | e) | e) | e) | e) | e <;> rw [e] <;> rfl
theorem XR.refl : XR Q M M := ⟨.refl, fun _ _ _ => ⟨fun _ => rfl, fun _ _ => rfl⟩⟩
theorem XR.trans (h1 : XR Q M M1) (h2 : XR Q M1 M2) : XR Q M M2 := ⟨FK.trans h1.1 h2.1, fun z hz hm => by
  obtain ⟨a1, a2⟩ := h1.2 z hz hm
  obtain ⟨b1, b2⟩ := h2.2 z (Nat.lt_of_lt_of_le hz h1.1.1) (by rw [exa_mo h1.1 hz]; exact hm)
  exact ⟨fun i => (b1 i).trans (a1 i), fun hq i => (b2 hq i).trans (a2 hq i)⟩⟩
theorem XQ.xr (h : XQ Q M M1) : XR Q M M1 := ⟨h.1.mono F9_10, h.2⟩
theorem XR_fk (f : FK S M M1) (hs : ∀ z, S z = true → F10 z = true) (h14 : S 14 = false) : XR Q M M1 := ⟨f.mono hs, fun z hz hm => by
  obtain ⟨a1, a2⟩ := f.cell hz (by rw [hm]; exact h14)
  exact ⟨a2, fun _ => a1⟩⟩
/-- the shape of a query stays -/
theorem AsS_xr {Q' : Nat} (hu : UN M) (hS : AsS M Q) (hx : XR Q' M M1) : AsS M1 Q := by
  have hl := AsS_lt hu hS
  obtain ⟨U, hU⟩ : ∃ U : MM, U = ((fun z i => if Q ≤ z ∧ z ≤ Q + 30 then M.1 z i else M1.1 z i), M1.2) := ⟨_, rfl⟩
  have e1 : ExA (fun z => ¬ AQs Q z) M U := by
    rw [hU]
    refine ⟨hx.1.1, hx.1.2.1, hx.1.2.2.1, fun z hz hn => ?_⟩
    have hn : AQs Q z := Classical.byContradiction (fun y => hn y)
    refine ⟨fun i => if_pos hn, fun i => (hx.2 z hz (AQ_mo hS hn)).1 i⟩
  have S2 : AsS U Q := hS.exa e1 hu (fun z hz y => y hz)
  have e2 : Ex (AQs Q) U M1 := by
    rw [hU]
    exact ⟨fun z hz i => (if_neg hz).symm, rfl⟩
  exact S2.ex e2
/-- no holder -/
theorem c_none31 (hC : CB M m al N pa own sd ps sn pu rf tm lf b0 eg tk pb as nb mn fa Y h) (hS : AsS M Q) (h13 : rI M Q 13 = 0) (hmn : ∀ r, r < nb → mn r = yv Y 269 r) (hrec : recY nb Y) (hh : hdW N Y t) (ht : t < 12) (hlf : lf t + 1 < 2147483648) (hk3 : yv Y 227 t = 3) : QE (f_X31_finish (Q : Int) ((wa pa t : Nat) : Int) M) M m al N pa own sd ps sn pu rf tm lf b0 eg tk pb as nb Q t (tlY t 0 [] Y) := by
  obtain ⟨Y0, hY0⟩ : ∃ Y0 : Ys, Y0 = (yw Y, yl Y, ys Y, lstQ t [] [] (yq Y)) := ⟨_, rfl⟩
  have C0 : CB M m al N pa own sd ps sn pu rf tm lf b0 eg tk pb as nb mn fa Y0 h := by rw [hY0]; exact CB_sc hC (fun _ _ _ => rfl) rfl
  have q0 : qL (yq Y0) t = [] := by rw [hY0]; exact fup_eq
  have v0 : ∀ a i, yv Y0 a i = yv Y a i := fun a i => by rw [hY0]
  have g := c_fin C0 hS (by rw [q0]; exact ⟨h13, Nat.zero_le _, fun i hi => absurd hi (by simp)⟩) (by rw [q0]; exact ⟨Nat.zero_le _, List.nodup_nil, fun z hz => absurd hz (by simp)⟩) (fun r hr => by rw [v0]; exact hmn r hr) (recY_ag hrec (fun a i _ => v0 a i)) (hdW_ag hh (fun a _ => v0 a t)) ht hlf (by rw [v0]; exact hk3)
  have e : rnkY t Y0 = tlY t 0 [] Y0 := by unfold rnkY; rw [q0]; rfl
  rw [e] at g
  obtain ⟨M', h', lf', mn', fa', b0', a1, a2, a3, a4, a5, a6, a7⟩ := g
  have c0 : yv (tlY t 0 [] Y) 226 t = 0 := clS_0
  have es : ∀ a i, yv (tlY t 0 [] Y0) a i = yv (tlY t 0 [] Y) a i := fun a i => by rw [hY0]; rfl
  refine ⟨M', h', lf', mn', fa', b0', a1, ?_, a3, fun z => absurd c0 z, a5, fun r hr => by rw [← es]; exact a6 r hr, ?_⟩
  · have := CB_sc (sc := ys (tlY t 0 [] Y)) (q := yq (tlY t 0 [] Y)) a2 (fun a i _ => (es a i).symm) (by rw [hY0]; rfl)
    have e2 : (yw (tlY t 0 [] Y0), yl (tlY t 0 [] Y0), ys (tlY t 0 [] Y), yq (tlY t 0 [] Y)) = tlY t 0 [] Y := by rw [hY0]; rfl
    rw [e2] at this
    exact this
  · rcases a7 with z | ⟨z, _⟩
    · exact Or.inl z
    · exact Or.inr ⟨z, c0, ht⟩
/-- the state with a holder more -/
def heY (own : Nat → Ky) (t : Nat) (x : Ent) (Y : Ys) : Ys := (yw Y, yl Y, st2 (st2 (st2 (ys Y) 250 (3 * t + (yv Y 248 t).toNat) (eAdr x)) 252 (3 * t + (yv Y 248 t).toNat) (hcE (own (yp Y t)) (qK (yq Y) (3 * t + (yv Y 248 t).toNat)) (wS (yw Y) (yp Y t)) x)) 248 t (yv Y 248 t + 1), hdQ (3 * t + (yv Y 248 t).toNat) (eKey x) (yq Y))
theorem he_v {x : Ent} {a i : Nat} (ha : a ≠ 250 ∧ a ≠ 252 ∧ a ≠ 248) : yv (heY own t x Y) a i = yv Y a i := by
  show vI (st2 (st2 (st2 (ys Y) 250 _ _) 252 _ _) 248 t _) a i = _
  rw [vI_ne (by omega), vI_ne (by omega), vI_ne (by omega)]
/-- a holder is found -/
theorem c_held31 {x : Ent} {i0 : Nat} (hS : AsS M Q) (hF : AsF M Q (ys Y) (yq Y) t) (h1 : yv Y 230 t = 1) (hi : yv Y 248 t = (i0 : Int)) (hi3 : i0 < 3) (hn : yv Y 247 t ≤ 3) (hx : Ex (fun z => z = Q + 3 ∨ z = Q + 4 ∨ z = Q + 22 + 4 * i0) M M1) (x1 : ky (kC M1 (Q + 21 + 4 * i0)) = eKey x) (x2 : rI M1 (Q + 4) i0 = eAdr x) (x3 : rI M1 (Q + 3) i0 = hcE (own (yp Y t)) (qK (yq Y) (3 * t + i0)) (wS (yw Y) (yp Y t)) x) (x4 : ∀ i, i ≠ i0 → rI M1 (Q + 4) i = rI M (Q + 4) i ∧ rI M1 (Q + 3) i = rI M (Q + 3) i) : AsF (sI M1 Q 6 ((i0 : Int) + 1)) Q (ys (heY own t x Y)) (yq (heY own t x Y)) t := by
  obtain ⟨a1, a2, a3, a4, a5⟩ := hF
  have ei : (yv Y 248 t).toNat = i0 := by omega
  obtain ⟨b1, b2, b3, b4⟩ := a4 h1
  have J : ∀ z i, ¬ (z = Q ∧ i = 6) → rI (sI M1 Q 6 ((i0 : Int) + 1)) z i = rI M1 z i := fun z i c => rI_ne c
  have C : ∀ j, 1 ≤ j → kC (sI M1 Q 6 ((i0 : Int) + 1)) (Q + j) = kC M1 (Q + j) := fun j hj => by funext i; exact J _ _ (by omega)
  have v : ∀ a i, a ≠ 250 → a ≠ 252 → a ≠ 248 → vI (ys (heY own t x Y)) a i = vI (ys Y) a i := fun a i z1 z2 z3 => he_v ⟨z1, z2, z3⟩
  have v8 : vI (ys (heY own t x Y)) 248 t = ((i0 + 1 : Nat) : Int) := by
    show vI (st2 (st2 (st2 (ys Y) 250 _ _) 252 _ _) 248 t (yv Y 248 t + 1)) 248 t = _
    rw [vI_eq rfl, hi, w32s (by omega)]; rfl
  have v0 : ∀ i, vI (ys (heY own t x Y)) 250 (3 * t + i) = if i = i0 then eAdr x else vI (ys Y) 250 (3 * t + i) := fun i => by
    show vI (st2 (st2 (st2 (ys Y) 250 (3 * t + (yv Y 248 t).toNat) (eAdr x)) 252 _ _) 248 t _) 250 (3 * t + i) = _
    rw [vI_ne (by omega), vI_ne (by omega), vI_st2, ei]
    by_cases c : i = i0
    · rw [if_pos ⟨rfl, by omega⟩, if_pos c, ← x2, w32_rI]
    · rw [if_neg (by omega), if_neg c]
  have v2 : ∀ i, vI (ys (heY own t x Y)) 252 (3 * t + i) = if i = i0 then hcE (own (yp Y t)) (qK (yq Y) (3 * t + i0)) (wS (yw Y) (yp Y t)) x else vI (ys Y) 252 (3 * t + i) := fun i => by
    show vI (st2 (st2 (st2 (ys Y) 250 _ _) 252 (3 * t + (yv Y 248 t).toNat) (hcE (own (yp Y t)) (qK (yq Y) (3 * t + (yv Y 248 t).toNat)) (wS (yw Y) (yp Y t)) x)) 248 t _) 252 (3 * t + i) = _
    rw [vI_ne (by omega), vI_st2, ei]
    by_cases c : i = i0
    · rw [if_pos ⟨rfl, by omega⟩, if_pos c, ← x3, w32_rI]
    · rw [if_neg (by omega), if_neg c, vI_ne (by omega)]
  have qh : ∀ i, qH (yq (heY own t x Y)) (3 * t + i) = if i = i0 then eKey x else qH (yq Y) (3 * t + i) := fun i => by
    show fup (qH (yq Y)) (3 * t + (yv Y 248 t).toNat) (eKey x) (3 * t + i) = _
    unfold fup
    rw [ei]
    by_cases c : i = i0
    · rw [if_pos (by omega), if_pos c]
    · rw [if_neg (by omega), if_neg c]
  unfold AsF
  rw [v 247 t (by decide) (by decide) (by decide), v 230 t (by decide) (by decide) (by decide), show vI (ys Y) 230 t = 1 from h1, v8]
  refine ⟨by rw [J _ _ (by omega), hx.rI (by omega)]; exact a1, fun i hi2 => ?_, fun i hi3 hi2 => ?_, fun _ => ?_, fun z => absurd rfl z⟩
  · have i3 : i < 3 := by have hn : vI (ys Y) 247 t ≤ 3 := hn; omega
    rw [show Q + 19 + 4 * i = Q + (19 + 4 * i) from by omega, C _ (by omega), show kC M1 (Q + (19 + 4 * i)) = kC M (Q + (19 + 4 * i)) from by funext j; exact hx.rI (by omega) j, show Q + (19 + 4 * i) = Q + 19 + 4 * i from by omega]
    exact a2 i hi2
  · rw [if_pos rfl] at hi2
    rw [v0, v2, qh, J _ _ (by omega), J _ _ (by omega), show Q + 21 + 4 * i = Q + (21 + 4 * i) from by omega, C _ (by omega), show Q + (21 + 4 * i) = Q + 21 + 4 * i from by omega]
    by_cases c : i = i0
    · rw [if_pos c, if_pos c, if_pos c, c]; exact ⟨x2, x1, x3⟩
    · rw [if_neg c, if_neg c, if_neg c, (x4 i c).1, (x4 i c).2, show kC M1 (Q + 21 + 4 * i) = kC M (Q + 21 + 4 * i) from by funext j; exact hx.rI (by omega) j]
      exact a3 i hi3 (by rw [if_pos h1, show vI (ys Y) 248 t = (i0 : Int) from hi]; omega)
  · refine ⟨by rw [rI_eq rfl, w32s (by omega)]; rfl, ?_, ?_, ?_⟩
    · rw [J _ _ (by omega), hx.rI (by omega)]; exact b2
    · rw [J _ _ (by omega), hx.rI (by omega)]; exact b3
    · rw [J _ _ (by omega), hx.rI (by omega)]; exact b4
end CLOOK31
