def stOK (st : Nat → Int) : Prop := (0 ≤ st 0 ∧ st 0 ≤ 1000) ∧ (1 ≤ st 1 ∧ st 1 ≤ 50) ∧ (0 ≤ st 2 ∧ st 2 ≤ 50) ∧ (0 ≤ st 3 ∧ st 3 ≤ 1000) ∧ (1 ≤ st 4 ∧ st 4 ≤ 500) ∧ (0 ≤ st 5 ∧ st 5 ≤ 3) ∧ (0 ≤ st 6 ∧ st 6 ≤ 10000) ∧ (1 ≤ st 7 ∧ st 7 ≤ 100000) ∧ (0 ≤ st 8 ∧ st 8 ≤ 10000) ∧ (1 ≤ st 9 ∧ st 9 ≤ 8) ∧ (0 ≤ st 10 ∧ st 10 < 2147483648)
theorem dS_ok {st : Nat → Int} (h : stOK st) : stOK (dS st) := by
  obtain ⟨h0, h1, h2, h3, h4, h5, h6, h7, h8, h9, h10⟩ := h
  exact ⟨h0, h1, h2, h3, h4, h5, h6, h7, h8, h9, sdn_lo (st 10)⟩
/-- what becomes of a datagram that is sent: settings, lost ones, flight -/
def sndS (st : Nat → Int) (tm lo : Int) (fl : List Dg) (ap : Bool) (f t : Int) (l : List Int) : (Nat → Int) × Int × List Dg :=
  if ap = true ∨ fl.length = 400 then (st, w32 (lo + 1), fl)
  else if drw (st 10) % 1000 < st 0 then (dS st, w32 (lo + 1), fl)
  else if drw (dS (dS st) 10) % 1000 < st 3 then
    (if fl.length + 1 = 400 then (dS (dS (dS st)), w32 (lo + 1), insF fl (f, t, arr (dS st) tm, l))
     else (dS (dS (dS (dS st))), lo, insF (insF fl (f, t, arr (dS st) tm, l)) (f, t, arr (dS (dS (dS st))) tm, l)))
  else (dS (dS (dS st)), lo, insF fl (f, t, arr (dS st) tm, l))
theorem e_lost {M : MM} {st : Nat → Int} {tm lo : Int} {fl : List Dg} {fA : Nat} (h : NetRep M st tm lo fl fA) : ∃ M', ((gfi 7 4 ((19 : Nat) : Int) M).bind fun v1 => (pfi 7 4 ((19 : Nat) : Int) (v1 + 1) M).bind fun M1 => some M1) = some M' ∧ NetRep M' st tm (w32 (lo + 1)) fl fA ∧ Ex (fun q => q = 19) M M' := by
  obtain ⟨hS, h1, h2, h3, h4, D, h6⟩ := h
  have x : Ex (fun q => q = 19) M (sI M 19 4 (lo + 1)) := Ex.st rfl
  refine ⟨sI M 19 4 (lo + 1), ?_, ⟨hS.ex x, fun i hi => by rw [x.rI (by decide)]; exact h1 i hi, ?_, ?_, ?_, D, h6.ex20 x (fun q hq => by rw [hq, hS.1]; decide)⟩, x⟩
  · rw [gfi_e (by rw [hS.1]), Option.bind_some, h3, pfi_e (by rw [hS.1])]; rfl
  · rw [rI_sI, if_neg (by omega)]; exact h2
  · rw [rI_sI, if_pos ⟨rfl, rfl⟩]
  · rw [rI_sI, if_neg (by omega)]; exact h4
theorem arr_w {st : Nat → Int} {tm : Int} (h : stOK st) (ht : 0 ≤ tm ∧ tm ≤ 1000000) : w32 (arr st tm) = arr st tm ∧ tm < arr st tm := by
  obtain ⟨h0, h1, h2, _⟩ := h
  have hd := drw_lo (st 10)
  have e1 : 0 ≤ drw (st 10) % (st 2 + 1) := Int.emod_nonneg _ (by omega)
  have e2 : drw (st 10) % (st 2 + 1) < st 2 + 1 := Int.emod_lt_of_pos _ (by omega)
  unfold arr
  exact ⟨w32_id (by omega) (by omega), by omega⟩
theorem rm1000 {s : Int} : rmi (drw s) 1000 = some (drw s % 1000) ∧ w32 (drw s % 1000) = drw s % 1000 := by
  have hd := drw_lo s
  refine ⟨?_, w32_id (by omega) (by omega)⟩
  rw [rmi_e (p := (drw s).toNat) (q := 1000) (by rw [w32_id (by omega) (by omega)]; omega) (by decide) (by decide)]
  congr 1
  omega
theorem e_send {M : MM} {st : Nat → Int} {tm lo f t : Int} {fl : List Dg} {fA p : Nat} {l : List Int} {ap : Bool} (hu : UN M) (h : NetRep M st tm lo fl fA) (hst : stOK st) (htm : 0 ≤ tm ∧ tm ≤ 1000000) (hfl : fl.length ≤ 400) (hp : PkC M p l) (hpm : m1 (mo M p) = false ∧ m1 (mo M (p + 1)) = false) (hw : w32 f = f ∧ w32 t = t) :
    ∃ M' fA', f_X7_send ((19 : Nat) : Int) f t (b2i ap) (p : Int) M = some M' ∧ NetRep M' (sndS st tm lo fl ap f t l).1 tm (sndS st tm lo fl ap f t l).2.1 (sndS st tm lo fl ap f t l).2.2 fA' ∧ FrM m1 M M' ∧ fA ≤ fA' ∧ nN M' + 3 * fA = nN M + 3 * fA' ∧ nU M' + 466 * fA = nU M + 466 * fA' := by
  have hS := h.1
  have hp28 : (kd M p).2 ≠ 28 := fun q => by
    have : mo M p = 1 := mo_obj (c := 4) (t := 28) (Prod.ext hp.1.1 q) (by decide) (by decide)
    rw [this] at hpm; cases hpm.1
  have lost : ∀ (U : MM) (st' : Nat → Int) (fl' : List Dg) (fB : Nat), NetRep U st' tm lo fl' fB → ∃ U', j_X7_send_31 ((19 : Nat) : Int) U = some U' ∧ NetRep U' st' tm (w32 (lo + 1)) fl' fB ∧ FrM m1 U U' ∧ nN U' = nN U ∧ nU U' = nU U := by
    intro U st' fl' fB hU
    obtain ⟨U', g1, g2, g3⟩ := e_lost hU
    exact ⟨U', g1, g2, FrM_ex g3 (fun q _ hq => by rw [hq, mo19 hU.1]; rfl), g3.nN, g3.nU⟩
  have ex20 : ∀ (U U' : MM), NetS U → Ex (fun q => q = 20) U U' → FrM m1 U U' := fun U U' hU hx => FrM_ex hx (fun q _ hq => by rw [hq, mo20 hU]; rfl)
  have hs2 : rI M 19 2 = (fl.length : Int) := h.2.2.2.2.1
  have w400 : w32 400 = 400 := by decide
  unfold f_X7_send
  cases ap with
  | true =>
    obtain ⟨U', g1, g2, g3, g4, g5⟩ := lost M st fl fA h
    rw [if_neg (show ¬ w32 (b2i true) = 0 by decide)]
    have e : sndS st tm lo fl true f t l = (st, w32 (lo + 1), fl) := if_pos (Or.inl rfl)
    rw [e]
    exact ⟨U', fA, g1, g2, g3, Nat.le_refl _, by omega, by omega⟩
  | false =>
    rw [if_pos (show w32 (b2i false) = 0 by decide), gfi_e (by rw [hS.1]), Option.bind_some, w32_rI, hs2, w400]
    by_cases c1 : fl.length = 400
    · obtain ⟨U', g1, g2, g3, g4, g5⟩ := lost M st fl fA h
      rw [if_pos (by omega)]
      have e : sndS st tm lo fl false f t l = (st, w32 (lo + 1), fl) := if_pos (Or.inr c1)
      rw [e]
      exact ⟨U', fA, g1, g2, g3, Nat.le_refl _, by omega, by omega⟩
    · rw [if_neg (by omega), ck_e (by rw [hS.1])]
      obtain ⟨M1, a1, a2, a3⟩ := e_draw h
      have hS1 := a2.1
      have fr1 := ex20 M M1 hS a3
      have a2 : NetRep M1 (dS st) tm lo fl fA := a2
      have rm := rm1000 (s := st 10)
      rw [a1, Option.bind_some]
      dsimp only
      have e0 : rI M1 20 0 = st 0 := a2.2.1 0 (by decide)
      rw [rm.1, Option.bind_some, gfr_e (by rw [hS1.1]), hS1.2.1, Option.bind_some, lai_e hS1.2.2.2.2.1 (by decide) (by decide) (show w32 0 = ((0 : Nat) : Int) by decide) (by decide), Option.bind_some, w32_rI, e0, rm.2]
      by_cases c2 : drw (st 10) % 1000 < st 0
      · obtain ⟨U', g1, g2, g3, g4, g5⟩ := lost M1 (dS st) fl fA a2
        have e : sndS st tm lo fl false f t l = (dS st, w32 (lo + 1), fl) := by
          unfold sndS
          rw [if_neg (by simp [c1]), if_pos c2]
        rw [if_pos c2, e]
        exact ⟨U', fA, g1, g2, fr1.trans g3, Nat.le_refl _, by rw [g4, a3.nN], by rw [g5, a3.nU]⟩
      · rw [if_neg c2, ck_e (by rw [hS1.1])]
        have ok1 := dS_ok hst
        obtain ⟨M2, b1, b2, b3⟩ := e_arrival a2 ⟨hst.2.2.1.1, hst.2.2.1.2⟩
        have hS2 := b2.1
        have fr2 := fr1.trans (ex20 M1 M2 hS1 b3)
        rw [b1, Option.bind_some]
        dsimp only
        rw [ck_e (by rw [hS2.1])]
        have aw := arr_w ok1 htm
        have pl : p < nN M := by have := isP_lt hu hp.1; omega
        obtain ⟨M3, fB, d1, d2, d3, d4, d5, d6⟩ := e_fly (due := arr (dS st) tm) (fr2.2.1 hu) b2 (by omega) (PkC_fr fr2 hu hpm.1 hpm.2 hp) (by rw [fr2.2.2.1 p pl]; exact hp28) ⟨hw.1, hw.2, aw.1⟩
        have fr3 := fr2.trans d3
        have hS3 := d2.1
        have n2 : nN M2 = nN M := by rw [b3.nN, a3.nN]
        have u2 : nU M2 = nU M := by rw [b3.nU, a3.nU]
        rw [d1, Option.bind_some, ck_e (by rw [hS3.1])]
        obtain ⟨M4, i1, i2, i3⟩ := e_draw d2
        have hS4 := i2.1
        have i2 : NetRep M4 (dS (dS (dS st))) tm lo (insF fl (f, t, arr (dS st) tm, l)) fB := i2
        have fr4 := fr3.trans (ex20 M3 M4 hS3 i3)
        have n4 : nN M4 = nN M3 := i3.nN
        have u4 : nU M4 = nU M3 := i3.nU
        rw [i1, Option.bind_some]
        dsimp only
        have rm3 := rm1000 (s := dS (dS st) 10)
        have e3 : rI M4 20 3 = st 3 := i2.2.1 3 (by decide)
        have hs4 : rI M4 19 2 = ((insF fl (f, t, arr (dS st) tm, l)).length : Int) := i2.2.2.2.2.1
        rw [insF_len] at hs4
        rw [rm3.1, Option.bind_some, gfr_e (by rw [hS4.1]), hS4.2.1, Option.bind_some, lai_e hS4.2.2.2.2.1 (by decide) (by decide) (show w32 3 = ((3 : Nat) : Int) by decide) (by decide), Option.bind_some, w32_rI, e3, rm3.2]
        by_cases c3 : drw (dS (dS st) 10) % 1000 < st 3
        · rw [if_pos c3, gfi_e (by rw [hS4.1]), Option.bind_some, w32_rI, hs4]
          by_cases c4 : fl.length + 1 = 400
          · rw [if_pos (by omega)]
            obtain ⟨U', g1, g2, g3⟩ := e_lost i2
            have e : sndS st tm lo fl false f t l = (dS (dS (dS st)), w32 (lo + 1), insF fl (f, t, arr (dS st) tm, l)) := by
              unfold sndS
              rw [if_neg (by simp [c1]), if_neg c2, if_pos c3, if_pos c4]
            rw [e]
            exact ⟨U', fB, g1, g2, fr4.trans (FrM_ex g3 (fun q _ hq => by rw [hq, mo19 hS4]; rfl)), d4, by rw [g3.nN]; omega, by rw [g3.nU]; omega⟩
          · rw [if_neg (by omega), ck_e (by rw [hS4.1])]
            obtain ⟨M5, k1, k2, k3⟩ := e_arrival i2 ⟨hst.2.2.1.1, hst.2.2.1.2⟩
            have hS5 := k2.1
            have fr5 := fr4.trans (ex20 M4 M5 hS4 k3)
            have ok3 := dS_ok (dS_ok ok1)
            have aw3 := arr_w ok3 htm
            rw [k1, Option.bind_some]
            dsimp only
            rw [ck_e (by rw [hS5.1])]
            obtain ⟨M6, fC, o1, o2, o3, o4, o5, o6⟩ := e_fly (due := arr (dS (dS (dS st))) tm) (fr5.2.1 hu) k2 (by rw [insF_len]; omega) (PkC_fr fr5 hu hpm.1 hpm.2 hp) (by rw [fr5.2.2.1 p pl]; exact hp28) ⟨hw.1, hw.2, aw3.1⟩
            have n5 : nN M5 = nN M4 := k3.nN
            have u5 : nU M5 = nU M4 := k3.nU
            have e : sndS st tm lo fl false f t l = (dS (dS (dS (dS st))), lo, insF (insF fl (f, t, arr (dS st) tm, l)) (f, t, arr (dS (dS (dS st))) tm, l)) := by
              unfold sndS
              rw [if_neg (by simp [c1]), if_neg c2, if_pos c3, if_neg c4]
            rw [e, o1]
            exact ⟨M6, fC, rfl, o2, fr5.trans o3, by omega, by omega, by omega⟩
        · rw [if_neg c3]
          have e : sndS st tm lo fl false f t l = (dS (dS (dS st)), lo, insF fl (f, t, arr (dS st) tm, l)) := by
            unfold sndS
            rw [if_neg (by simp [c1]), if_neg c2, if_neg c3]
          rw [e]
          exact ⟨M4, fB, rfl, i2, fr4, d4, by omega, by omega⟩
/-- Net.force -/
theorem e_force {M : MM} {st : Nat → Int} {tm lo f t : Int} {fl : List Dg} {fA p : Nat} {l : List Int} (hu : UN M) (h : NetRep M st tm lo fl fA) (htm : 0 ≤ tm ∧ tm ≤ 1000000) (hfl : fl.length ≤ 400) (hp : PkC M p l) (hpm : m1 (mo M p) = false ∧ m1 (mo M (p + 1)) = false) (hw : w32 f = f ∧ w32 t = t) :
    ∃ M' fA', f_X7_force ((19 : Nat) : Int) f t (p : Int) M = some (b2i (decide (fl.length ≠ 400)), M') ∧ NetRep M' st tm lo (if fl.length = 400 then fl else insF fl (f, t, tm + 1, l)) fA' ∧ FrM m1 M M' ∧ fA ≤ fA' ∧ nN M' + 3 * fA = nN M + 3 * fA' ∧ nU M' + 466 * fA = nU M + 466 * fA' := by
  have hS := h.1
  have hp28 : (kd M p).2 ≠ 28 := fun q => by
    have : mo M p = 1 := mo_obj (c := 4) (t := 28) (Prod.ext hp.1.1 q) (by decide) (by decide)
    rw [this] at hpm; cases hpm.1
  have hs2 : rI M 19 2 = (fl.length : Int) := h.2.2.2.2.1
  unfold f_X7_force
  rw [gfi_e (by rw [hS.1]), Option.bind_some, w32_rI, hs2, show w32 400 = 400 by decide]
  by_cases c1 : fl.length = 400
  · rw [if_pos (by omega), if_pos c1]
    have : decide (fl.length ≠ 400) = false := by simp [c1]
    rw [this]
    exact ⟨M, fA, rfl, h, FrM.refl, Nat.le_refl _, rfl, rfl⟩
  · rw [if_neg (by omega), if_neg c1, gfi_e (by rw [hS.1]), Option.bind_some, h.2.2.1, ck_e (by rw [hS.1])]
    have : decide (fl.length ≠ 400) = true := by simp [c1]
    rw [this]
    obtain ⟨M3, fB, d1, d2, d3, d4, d5, d6⟩ := e_fly (due := tm + 1) hu h (by omega) hp hp28 ⟨hw.1, hw.2, w32_id (by omega) (by omega)⟩
    rw [d1]
    exact ⟨M3, fB, rfl, d2, d3, d4, d5, d6⟩
theorem e_isDue {M : MM} {st : Nat → Int} {tm lo : Int} {fl : List Dg} {fA : Nat} (h : NetRep M st tm lo fl fA) : f_X7_isDue ((19 : Nat) : Int) M = some (b2i (decide (0 < fl.length) && decide ((fl.getD 0 dg0).2.2.1 ≤ tm))) := by
  obtain ⟨hS, h1, h2, h3, h4, D, f1, f2, f3, f4, f5, f6⟩ := h
  unfold f_X7_isDue j_X7_isDue_27 j_X7_isDue_28
  rw [gfi_e (by rw [hS.1]), Option.bind_some, w32_rI, h4]
  by_cases c : 0 < fl.length
  · rw [if_pos (by omega), gfr_e (by rw [hS.1]), hS.2.2.1, Option.bind_some, lar_e hS.2.2.2.2.2.1 (by decide) (by decide) (show w32 0 = ((0 : Nat) : Int) by decide) (by decide), Option.bind_some, (f4 0 (by omega)).1, gfi_e (by rw [(f4 0 (by omega)).2.1]), Option.bind_some, gfi_e (by rw [hS.1]), Option.bind_some, w32_rI, w32_rI, h2, (f6 0 c).2.2.2.1, decide_eq_true c, bz_e (Or.inl rfl), bz_e (Or.inr rfl)]
    by_cases c2 : (fl.getD 0 dg0).2.2.1 ≤ tm
    · rw [if_neg (by omega), decide_eq_true c2]; rfl
    · rw [if_pos (by omega), decide_eq_false c2]; rfl
  · rw [if_neg (by omega), decide_eq_false c, bz_e (Or.inl rfl)]; rfl
