/-! a caller's work opens: the reference -/
def opA0 (t : Nat) (kind : Int) (p r : Nat) (sc : VV) : VV := st2 (st2 (st2 (st2 (st2 (st2 (opB t kind p sc) 229 t (r : Int)) 265 r kind) 266 r (p : Int)) 267 r 0) 268 r 0) 269 r 0
def opAV (t : Nat) (kind : Int) (p r : Nat) (tn : Int) (V : VV) : VV := st2 (st2 (st2 (st2 (st2 (st2 (st2 (opB t kind p V) 231 t (tn + 1)) 229 t (r : Int)) 265 r kind) 266 r (p : Int)) 267 r 0) 268 r 0) 269 r 0
section VOPEN
variable {V W sc sc' : VV} {m al N p t t' nb oth Z L k K : Nat} {own : Nat → Ky} {sd ps sn pu rf : Nat → Int} {tm kind x v : Int} {Y Y1 : Ys} {Lb : Nat → List Trm} {ev tn : Nat → Nat} {w : Wd} {l : Nat → LkA} {q : Qs}
theorem vy_sc (h : VY V m al N own sd ps sn pu rf tm Lb oth Z ev tn (w, l, sc, q)) (hr : ∀ a i, vI sc' a i = vI sc a i) : VY V m al N own sd ps sn pu rf tm Lb oth Z ev tn (w, l, sc', q) := by
  obtain ⟨h1, h2, h3, h4, h5, h6, h7, h8⟩ := h
  exact ⟨h1, h2, h3, h4, fun a i z => by show vI V a i = vI sc' a i; rw [hr]; exact h5 a i z, h6, h7, TmV_ag (sc := sc) h8 (fun _ _ _ => rfl) (fun t _ z1 z2 => by
    have z1 : vI sc' 226 t ≠ 0 := z1
    have z2 : vI sc' 227 t = 2 := z2
    rw [hr] at z1 z2
    exact ⟨⟨z1, z2⟩, hr _ _, hr _ _, hr _ _⟩)⟩
theorem vy_91 (h : VY V m al N own sd ps sn pu rf tm Lb oth Z ev tn Y) : VY (st2 V 156 91 v) m al N own sd ps sn pu rf tm Lb oth Z ev tn (setV Y 156 91 v) := by
  obtain ⟨⟨L, hP, hL⟩, h2, h3, h4, h5, h6, h7, h8⟩ := h
  have g : FrV (fun z => z == 8) V (st2 V 156 91 v) := FrV_st rfl
  have ne : ∀ a i, a ≠ 156 → vI (st2 V 156 91 v) a i = vI V a i := fun a i z => vI_ne (fun e => z e.1)
  obtain ⟨p1, p2, p3, p4, p5, p6, p7, p8⟩ := hP
  refine ⟨⟨L, ⟨VNet_fr g (by decide) p1, PV_frV g (by decide) p2, tabs_frV g (by decide) p3, sts_frV g (by decide) p4, rqs_frV g ⟨by decide, by decide⟩ p5, by rw [vI_ne (by decide)]; exact p6, by rw [vI_ne (by decide)]; exact p7, p8⟩, hL⟩, h2, h3, LksV_ag h4 (fun a i z => ne a i (by omega)), sc_st h5, QsV_ag h6 (fun a i z => ne a i (by omega)), LbV_ag h7 (fun a i z => ne a i (by omega)), TmV_ag h8 (fun a i z => ne a i (by omega)) (fun t _ z1 z2 => ?_)⟩
  have e : ∀ a i, a ≠ 156 → vI (st2 (ys Y) 156 91 v) a i = vI (ys Y) a i := fun a i z => vI_ne (fun e => z e.1)
  have z1 : vI (st2 (ys Y) 156 91 v) 226 t ≠ 0 := z1
  have z2 : vI (st2 (ys Y) 156 91 v) 227 t = 2 := z2
  rw [e _ _ (by decide)] at z1 z2
  exact ⟨⟨z1, z2⟩, e _ _ (by decide), e _ _ (by decide), e _ _ (by decide)⟩
theorem op_reads {r : Nat} (a i : Nat) : vI (opG t kind p (r : Int) (recS r kind p sc)) a i = vI (st2 (opA0 t kind p r sc) 156 91 ((r : Int) + 1)) a i := by
  unfold opG recS opA0 opB
  simp only [vI_st2]
  repeat' split
  all_goals first
    | rfl
    | (exfalso; omega)
/-- the reference opens a caller's work -/
theorem v_openA (h : VY V m al N own sd ps sn pu rf tm Lb oth Z ev tn Y) (ht : t < 12) (h91 : yv Y 156 91 = (nb : Int)) (hn : nb < 256) (htn : tn t < 2000000000) : f_X16_open (t : Int) kind (p : Int) V = some (st2 (opAV t kind p nb (tn t) V) 156 91 ((nb : Int) + 1)) := by
  have h231 := (h.2.2.2.1 t (by omega)).2.2.2
  have v91 : w32 (V 156 91) = (nb : Int) := (h.2.2.2.2.1 156 91 (by unfold scA; omega)).trans h91
  have t44 : t < 44 := by omega
  unfold f_X16_open j_X16_open_94 j_X16_open_114
  rw [s2z_n t44 (by decide) (Or.inr rfl), Option.bind_some, s2_n t44 (by decide), Option.bind_some, s2_n t44 (by decide), Option.bind_some, s2_n t44 (by decide), Option.bind_some, l2_n t44 (by decide), Option.bind_some, s2_n t44 (by decide), Option.bind_some, w32_nn (by omega), if_pos (by show ((t : Nat) : Int) < 12; omega)]
  have r91 : ∀ (U : VV), (∀ i, U 156 i = V 156 i) → w32 (U 156 91) = (nb : Int) := fun U hU => by rw [hU]; exact v91
  rw [vI_ne (by omega), vI_ne (by omega), vI_ne (by omega), vI_ne (by omega), h231]
  have q : ∀ {U : VV} {a i : Nat} {v : Int}, a ≠ 156 → (∀ i, U 156 i = V 156 i) → ∀ j, st2 U a i v 156 j = V 156 j := fun ha hU j => by rw [st2_ne (fun e => ha e.1.symm)]; exact hU j
  have qB : ∀ j, opB t kind p V 156 j = V 156 j := by unfold opB; exact q (by decide) (q (by decide) (q (by decide) (q (by decide) (fun _ => rfl))))
  have q1 := q (a := 231) (i := t) (v := (tn t : Int) + 1) (by decide) qB
  have q2 := q (a := 229) (i := t) (v := (nb : Int)) (by decide) q1
  have q3 := q (a := 265) (i := nb) (v := kind) (by decide) q2
  have q4 := q (a := 266) (i := nb) (v := (p : Int)) (by decide) q3
  have q5 := q (a := 267) (i := nb) (v := 0) (by decide) q4
  have q6 := q (a := 268) (i := nb) (v := 0) (by decide) q5
  have q7 := q (a := 269) (i := nb) (v := 0) (by decide) q6
  show (s2 229 44 (t : Int) (w32 (st2 (opB t kind p V) 231 t ((tn t : Int) + 1) 156 91)) (st2 (opB t kind p V) 231 t ((tn t : Int) + 1))).bind _ = _
  rw [r91 _ q1, s2_n t44 (by decide), Option.bind_some, r91 _ q2, s2_n hn (by decide), Option.bind_some, r91 _ q3, s2_n hn (by decide), Option.bind_some, r91 _ q4, s2_n hn (by decide), Option.bind_some, r91 _ q5, s2_n hn (by decide), Option.bind_some, r91 _ q6, s2_n hn (by decide), Option.bind_some, r91 _ q7, p2_e, Option.bind_some]
  rfl
/-- the state of both: a record, a work that goes -/
def opX (t : Nat) (kind : Int) (p r : Nat) (Y : Ys) : Ys := opZ t kind p (r : Int) (recZ r kind p Y)
theorem opX_ne {r a i : Nat} (h1 : ¬ ((a = 226 ∨ a = 227 ∨ a = 228 ∨ a = 229) ∧ i = t)) (h2 : ¬ ((265 ≤ a ∧ a ≤ 269) ∧ i = r)) (h3 : ¬ (a = 156 ∧ i = 91)) : yv (opX t kind p r Y) a i = yv Y a i := (opG_ne h1).trans (recS_ne h2 h3)
theorem opX_eq {r : Nat} (hk : 0 ≤ kind ∧ kind ≤ 5) (hp : p < 32) (hr : r < 256) : (yv (opX t kind p r Y) 226 t = 1 ∧ yv (opX t kind p r Y) 227 t = kind ∧ yv (opX t kind p r Y) 228 t = (p : Int) ∧ yv (opX t kind p r Y) 229 t = (r : Int)) ∧ (yv (opX t kind p r Y) 265 r = kind ∧ yv (opX t kind p r Y) 266 r = (p : Int) ∧ yv (opX t kind p r Y) 267 r = 0 ∧ yv (opX t kind p r Y) 268 r = 0 ∧ yv (opX t kind p r Y) 269 r = 0 ∧ yv (opX t kind p r Y) 156 91 = ((r + 1 : Nat) : Int)) := by
  refine ⟨opG_eq hk hp (by omega), ?_⟩
  have e : ∀ a i, 250 ≤ a ∨ a = 156 → yv (opX t kind p r Y) a i = vI (recS r kind p (ys Y)) a i := fun a i z => opG_ne (by omega)
  rw [e _ _ (by omega), e _ _ (by omega), e _ _ (by omega), e _ _ (by omega), e _ _ (by omega), e _ _ (by omega)]
  exact recS_eq hk hp hr
theorem vy_opA (h : VY V m al N own sd ps sn pu rf tm Lb oth Z ev tn Y) (ht : t < 12) (hk : 0 ≤ kind ∧ kind ≤ 5) (hk2 : kind ≠ 2) (hp : p < 32) (hn : nb < 256) (htn : tn t < 2000000000) : VY (st2 (opAV t kind p nb (tn t) V) 156 91 ((nb : Int) + 1)) m al N own sd ps sn pu rf tm Lb oth Z ev (fup tn t (tn t + 1)) (opX t kind p nb Y) ∧ KpV V (st2 (opAV t kind p nb (tn t) V) 156 91 ((nb : Int) + 1)) := by
  have raw : ∀ a i, ¬ ((a = 226 ∨ a = 227 ∨ a = 228 ∨ a = 229 ∨ a = 231) ∧ i = t) → ¬ ((265 ≤ a ∧ a ≤ 269) ∧ i = nb) → opAV t kind p nb (tn t) V a i = V a i := fun a i z1 z2 => by
    unfold opAV opB
    rw [st2_ne (by omega), st2_ne (by omega), st2_ne (by omega), st2_ne (by omega), st2_ne (by omega), st2_ne (by omega), st2_ne (by omega), st2_ne (by omega), st2_ne (by omega), st2_ne (by omega), st2_ne (by omega)]
  have rv : ∀ a i, ¬ ((a = 226 ∨ a = 227 ∨ a = 228 ∨ a = 229 ∨ a = 231) ∧ i = t) → ¬ ((265 ≤ a ∧ a ≤ 269) ∧ i = nb) → vI (opAV t kind p nb (tn t) V) a i = vI V a i := fun a i z1 z2 => by show w32 _ = w32 _; rw [raw a i z1 z2]
  have s0 : ScV (opAV t kind p nb (tn t) V) (opA0 t kind p nb (ys Y)) := by
    unfold opAV opA0 opB
    exact sc_st (sc_st (sc_st (sc_st (sc_st (sc_st (sc_ne (sc_st (sc_st (sc_st (sc_st h.2.2.2.2.1)))) (by unfold scA; omega)))))))
  have rs : ∀ a i, a ≠ 156 → vI (opA0 t kind p nb (ys Y)) a i = yv (opX t kind p nb Y) a i := fun a i z => by
    have := op_reads (t := t) (kind := kind) (p := p) (r := nb) (sc := ys Y) a i
    rw [vI_ne (fun e => z e.1)] at this
    exact this.symm
  have tm0 : TmV (opAV t kind p nb (tn t) V) (opA0 t kind p nb (ys Y)) Lb := TmV_ag h.2.2.2.2.2.2.2 (fun a i z => rv a i (by omega) (by omega)) (fun t' ht' z1 z2 => by
    by_cases c : t' = t
    · rw [c, rs _ _ (by decide), (opX_eq hk hp hn).1.2.1] at z2; exact absurd z2 hk2
    · have e : ∀ a, a ≤ 250 → a ≠ 156 → vI (opA0 t kind p nb (ys Y)) a t' = vI (ys Y) a t' := fun a ha h1 => (rs a t' h1).trans (opX_ne (by omega) (by omega) (by omega))
      rw [e _ (by decide) (by decide)] at z1 z2
      exact ⟨⟨z1, z2⟩, e _ (by decide) (by decide), e _ (by decide) (by decide), e _ (by decide) (by decide)⟩)
  have v0 : VY (opAV t kind p nb (tn t) V) m al N own sd ps sn pu rf tm Lb oth Z ev (fup tn t (tn t + 1)) (dtW t (yw Y), yl Y, opA0 t kind p nb (ys Y), yq Y) := vy_op h (by omega) htn (fun a i z => by
    by_cases c : a = 231 ∧ i = t
    · rw [c.1, c.2]
      unfold opAV
      rw [st2_ne (by omega), st2_ne (by omega), st2_ne (by omega), st2_ne (by omega), st2_ne (by omega), st2_ne (by omega)]
      unfold st2; rw [if_pos ⟨rfl, rfl⟩, if_pos ⟨rfl, rfl⟩]
    · rw [st2_ne c]; exact raw a i (by omega) (by omega)) (fun a i z => rv a i (by omega) (by omega)) s0 (fun a i z => rv a i (by omega) (by omega)) tm0
  refine ⟨vy_sc (vy_91 v0) (fun a i => op_reads a i), KpV_ag (fun a i z => ?_)⟩
  rw [st2_ne (by unfold kpA at z; omega)]
  exact raw a i (by unfold kpA at z; omega) (by unfold kpA at z; omega)
end VOPEN
