/-! the works of the class -/
def pO (o : Option Nat) : Int := match o with | some a => (a : Int) | none => -1
/-- what a work of the class knows -/
def Wk12 (M : MM) (pa tk : Nat → Nat) (pb as : Nat → Option Nat) (sc : VV) (t : Nat) : Prop :=
  rR M (wa pa t) 10 = pO (pb t) ∧ rR M (wa pa t) 11 = pO (as t) ∧ rI M (wa pa t) 6 = vI sc 226 t ∧ (vI sc 226 t ≠ 0 → rR M (wa pa t) 2 = ((pa (vI sc 228 t).toNat : Nat) : Int) ∧ rR M (wa pa t) 4 = (if vI sc 229 t < 0 then -1 else ((tk (vI sc 229 t).toNat : Nat) : Int)) ∧
    ((vI sc 227 t = 0 ∨ vI sc 227 t = 4) → rR M (wa pa t) 3 = ((wa pa t + 3 : Nat) : Int) ∧ rI M (wa pa t + 3) 0 = b2i (decide (vI sc 242 t < 0)) ∧ (0 ≤ vI sc 242 t → rI M (wa pa t + 3) 1 = vI sc 242 t ∧ rI M (wa pa t + 3) 2 = vI sc 241 t)) ∧
    (vI sc 227 t = 1 → rR M (wa pa t) 3 = ((wa pa t + 4 : Nat) : Int)) ∧ (vI sc 227 t = 2 → rR M (wa pa t) 3 = pO (pb t) ∧ pb t ≠ none) ∧ (vI sc 227 t = 3 → rR M (wa pa t) 3 = pO (as t) ∧ as t ≠ none))
def WksC (M : MM) (T : Nat) (pa tk : Nat → Nat) (pb as : Nat → Option Nat) (sc : VV) : Prop := ∀ t, t < T → Wk12 M pa tk pb as sc t
/-- a task of the class -/
def tldT (sc : VV) (r : Nat) : Prop := vI sc 267 r = 1 ∧ (vI sc 265 r = 1 ∨ vI sc 265 r = 3)
def TkC (M : MM) (a : Nat) (sc : VV) (q : Qs) (mn : Nat → Int) (fa : Nat → Nat) (r : Nat) : Prop :=
  kd M a = (26, 37) ∧ rI M a 0 = vI sc 265 r ∧ rI M a 1 = vI sc 266 r ∧ rI M a 2 = vI sc 267 r ∧ rI M a 3 = vI sc 268 r ∧ rI M a 4 = mn r ∧ (tldT sc r → rR M a 6 = ((fa r : Nat) : Int) ∧ kd M (fa r) = (528, (qR q r).length) ∧ (∀ i, i < (qR q r).length → rI M (fa r) i = (qR q r).getD i 0) ∧ rI M a 5 = (if vI sc 265 r = 1 then 6 else 3)) ∧ (¬ (vI sc 265 r = 1 ∨ vI sc 265 r = 3) → rR M a 6 = -1)
def TksC (M : MM) (nb : Nat) (tk : Nat → Nat) (sc : VV) (q : Qs) (mn : Nat → Int) (fa : Nat → Nat) : Prop :=
  (∀ r, r < nb → TkC M (tk r) sc q mn fa r) ∧ ∀ r r', r < nb → r' < nb → tk r = tk r' → r = r'
/-- cells of a work that it writes -/
def A12 (a q : Nat) : Prop := q = a ∨ q = a + 2 ∨ q = a + 3
section CWORK
variable {S : Nat → Bool} {M M1 : MM} {m al N T p t nb : Nat} {pa tk : Nat → Nat} {own : Nat → Ky} {sd ps sn pu rf : Nat → Int} {tm how : Int} {lf lf' : Nat → Nat} {b : Nat × Nat} {w : Wd} {h : Gh} {lk : Nat → LkA} {eg : EG} {pb as : Nat → Option Nat} {sc sc' : VV} {q q' : Qs} {mn mn' : Nat → Int} {fa fa' : Nat → Nat}
theorem A12_mo (hS : WlS M (wa pa t)) {z : Nat} (hz : A12 (wa pa t) z) : mo M z = 12 := by
  obtain ⟨o1, o2, o3, o4, o5⟩ := Wl_mo hS
  rcases hz with e | e | e <;> rw [e]
  · exact o1
  · exact o3
  · exact o4
theorem FK_w12 (hS : WlS M (wa pa t)) (hx : ExA (A12 (wa pa t)) M M1) : FK (fun z => z == 12) M M1 := FK_exa hx (fun z _ hz => by rw [A12_mo hS hz]; rfl)
/-- a work changes: nothing to the lookups -/
theorem LksC_w (hL : LksC M m T pa lk lf eg) (ht : t < T) (hx : ExA (A12 (wa pa t)) M M1) (hr : ∀ i, i = 0 ∨ i = 1 ∨ i = 7 ∨ i = 8 ∨ i = 9 → rR M1 (wa pa t) i = rR M (wa pa t) i) (hl : rI M1 (wa pa t) 5 = (lf' t : Int)) (hl2 : ∀ t', t' ≠ t → lf' t' = lf t') : LksC M1 m T pa lk lf' eg := by
  obtain ⟨hu, h1, h2, h3⟩ := hL
  have f := FK_w12 (h2 t ht).1 hx
  refine ⟨f.un hu, h1, fun t' ht' => ?_, h3⟩
  obtain ⟨w1, w2, w3, w4, w5⟩ := h2 t' ht'
  obtain ⟨v1, _⟩ := h2 t ht
  have hlt := WlS_lt hu w1
  have hl2' := LuS_lt hu w2.1
  obtain ⟨u1, u2, u3, u4⟩ := Lu_mo w2.1
  have n6 : ∀ z, mo M z = 6 → ¬ A12 (wa pa t) z := fun z hz ha => by rw [A12_mo v1 ha] at hz; exact absurd hz (by decide)
  have nk : ¬ A12 (wa pa t) (wa pa t' + 1) := fun ha => by
    rcases ha with e | e | e
    · have := w1.2.2.1; rw [e] at this; have := v1.1; simp_all
    · have := w1.2.2.1; rw [e, show wa pa t + 2 = wa pa t + 1 + 1 from rfl, v1.2.2.2.1.2.2] at this; exact absurd this (by decide)
    · have := w1.2.2.1; rw [e, v1.2.2.2.2.1] at this; exact absurd this (by decide)
  have lu : LuC M1 (wa pa t' + 5) m (lk t').1 (lk t').2.2.1 (eg t').1 (eg t').2 := w2.exa hx hu (fun z z1 z2 => n6 z (by
    have e : z = wa pa t' + 5 ∨ z = wa pa t' + 5 + 1 ∨ z = wa pa t' + 5 + 2 ∨ z = wa pa t' + 5 + 3 := by omega
    rcases e with e | e | e | e <;> rw [e]
    · exact u1
    · exact u2
    · exact u3
    · exact u4)) (fun i hi z z1 z2 => n6 z (by
    obtain ⟨e1, e2, e3⟩ := En_mo (w2.2.2.2.2.2.1 i hi).2
    have e : z = (eg t').2 i ∨ z = (eg t').2 i + 1 ∨ z = (eg t').2 i + 2 := by omega
    rcases e with e | e | e <;> rw [e]
    · exact e1
    · exact e2
    · exact e3))
  have i4 : rI M1 (wa pa t' + 5) 4 = (lk t').2.2.2 := by rw [hx.rI (by omega) (n6 _ u1)]; exact w3
  have i5 : rI M1 (wa pa t' + 5) 5 = b2i (lk t').2.1 := by rw [hx.rI (by omega) (n6 _ u1)]; exact w4
  obtain ⟨s1, ⟨s2, s3, s4, s5, s6⟩, s7, s8, s9, s10⟩ := id w1
  by_cases c : t' = t
  · subst c
    refine ⟨⟨by rw [hx.kd (by omega)]; exact s1, ⟨by rw [hr 0 (by omega)]; exact s2, by rw [hr 1 (by omega)]; exact s3, by rw [hr 7 (by omega)]; exact s4, by rw [hr 8 (by omega)]; exact s5, by rw [hr 9 (by omega)]; exact s6⟩, by rw [hx.kd (by omega)]; exact s7, hx.isK hu nk s8, by rw [hx.kd (by omega)]; exact s9, by rw [hx.kd (by omega)]; exact s10⟩, lu, i4, i5, hl⟩
  · have n0 : ¬ A12 (wa pa t) (wa pa t') := fun ha => by
      rcases ha with e | e | e
      · exact c (h1 t' t ht' ht e)
      · have := w1.1; rw [e, show wa pa t + 2 = wa pa t + 1 + 1 from rfl, v1.2.2.2.1.2.2] at this; exact absurd this (by decide)
      · have := w1.1; rw [e, v1.2.2.2.2.1] at this; exact absurd this (by decide)
    exact ⟨w1.exa hx hu n0 nk, lu, i4, i5, by rw [hx.rI (by omega) n0, hl2 t' c]; exact w5⟩
theorem Wk12_ag (h : Wk12 M pa tk pb as sc t) (h1 : ∀ i, rI M1 (wa pa t) i = rI M (wa pa t) i) (h2 : ∀ i, rR M1 (wa pa t) i = rR M (wa pa t) i) (h3 : ∀ i, rI M1 (wa pa t + 3) i = rI M (wa pa t + 3) i) (hv : vI sc' 226 t ≠ 0 → ∀ a, a = 227 ∨ a = 228 ∨ a = 229 ∨ a = 241 ∨ a = 242 → vI sc' a t = vI sc a t) (h6 : vI sc' 226 t = vI sc 226 t) : Wk12 M1 pa tk pb as sc' t := by
  unfold Wk12 at *
  rw [h2, h2, h1, h6, h2, h2, h2, h3, h3, h3]
  refine ⟨h.1, h.2.1, h.2.2.1, fun z => ?_⟩
  have hv := hv (by rw [h6]; exact z)
  rw [hv 227 (by omega), hv 228 (by omega), hv 229 (by omega), hv 241 (by omega), hv 242 (by omega)]
  exact h.2.2.2 z
theorem Wks_fk (hL : LksC M m T pa lk lf eg) (f : FK S M M1) (hs : S 12 = false) (h : WksC M T pa tk pb as sc) : WksC M1 T pa tk pb as sc := fun t ht => by
  obtain ⟨w1, _⟩ := hL.2.2.1 t ht
  obtain ⟨o1, o2, o3, o4, o5⟩ := Wl_mo w1
  have hlt := WlS_lt hL.1 w1
  exact Wk12_ag (h t ht) (fun i => f.rI (by omega) (by rw [o1]; exact hs) i) (fun i => f.rR (by omega) (by rw [o1]; exact hs) i) (fun i => f.rI (by omega) (by rw [o4]; exact hs) i) (fun _ _ _ => rfl) rfl
/-- a work changes: nothing to the other works -/
theorem Wks_w (hL : LksC M m T pa lk lf eg) (ht : t < T) (hx : ExA (A12 (wa pa t)) M M1) (h : WksC M T pa tk pb as sc) (hv : ∀ t', t' ≠ t → ∀ a, a = 226 ∨ a = 227 ∨ a = 228 ∨ a = 229 ∨ a = 241 ∨ a = 242 → vI sc' a t' = vI sc a t') (hn : Wk12 M1 pa tk pb as sc' t) : WksC M1 T pa tk pb as sc' := fun t' ht' => by
  by_cases c : t' = t
  · rw [c]; exact hn
  · obtain ⟨w1, _⟩ := hL.2.2.1 t' ht'
    obtain ⟨v1, _⟩ := hL.2.2.1 t ht
    have hlt := WlS_lt hL.1 w1
    have n0 : ¬ A12 (wa pa t) (wa pa t') := fun ha => by
      rcases ha with e | e | e
      · exact c (hL.2.1 t' t ht' ht e)
      · have := w1.1; rw [e, show wa pa t + 2 = wa pa t + 1 + 1 from rfl, v1.2.2.2.1.2.2] at this; exact absurd this (by decide)
      · have := w1.1; rw [e, v1.2.2.2.2.1] at this; exact absurd this (by decide)
    have n3 : ¬ A12 (wa pa t) (wa pa t' + 3) := fun ha => by
      rcases ha with e | e | e
      · have := w1.2.2.2.2.1; rw [e] at this; have h2 := v1.1; rw [this] at h2; exact absurd h2 (by decide)
      · have := w1.2.2.2.2.1; rw [e, show wa pa t + 2 = wa pa t + 1 + 1 from rfl, v1.2.2.2.1.2.2] at this; exact absurd this (by decide)
      · exact c (hL.2.1 t' t ht' ht (by omega))
    exact Wk12_ag (h t' ht') (fun i => hx.rI (by omega) n0 i) (fun i => hx.rR (by omega) n0 i) (fun i => hx.rI (by omega) n3 i) (fun _ a z => hv t' c a (by omega)) (hv t' c 226 (by omega))
theorem Tk_ag {S' : Nat → Prop} {r a : Nat} (hu : UN M) (h : TkC M a sc q mn fa r) (hx : ExA S' M M1) (n1 : ¬ S' a) (n2 : ∀ x, (kd M x).1 = 528 → ¬ S' x) (hv : ∀ a, a = 265 ∨ a = 266 ∨ a = 267 ∨ a = 268 → vI sc' a r = vI sc a r) (hq : qR q' r = qR q r) (hm : mn' r = mn r) (hf : fa' r = fa r) : TkC M1 a sc' q' mn' fa' r := by
  have hlt := hu.lt (a := a) (by rw [h.1]; decide)
  obtain ⟨t1, t2, t3, t4, t5, t6, t7, t8⟩ := h
  have et : tldT sc' r ↔ tldT sc r := by unfold tldT; rw [hv 267 (by omega), hv 265 (by omega)]
  refine ⟨by rw [hx.kd hlt]; exact t1, by rw [hx.rI hlt n1, hv 265 (by omega)]; exact t2, by rw [hx.rI hlt n1, hv 266 (by omega)]; exact t3, by rw [hx.rI hlt n1, hv 267 (by omega)]; exact t4, by rw [hx.rI hlt n1, hv 268 (by omega)]; exact t5, by rw [hx.rI hlt n1, hm]; exact t6, fun z => ?_, fun z => by rw [hx.rR hlt n1]; exact t8 (fun y => z (by rw [hv 265 (by omega)]; exact y))⟩
  obtain ⟨s1, s2, s3, s4⟩ := t7 (et.mp z)
  have hl2 := hu.lt (a := fa r) (by rw [s2]; show 528 ≠ 63; decide)
  rw [hf, hq, hv 265 (by omega)]
  exact ⟨by rw [hx.rR hlt n1]; exact s1, by rw [hx.kd hl2]; exact s2, fun i hi => by rw [hx.rI hl2 (n2 _ (by rw [s2]))]; exact s3 i hi, by rw [hx.rI hlt n1]; exact s4⟩
theorem Tks_fk (hu : UN M) (f : FK S M M1) (hs : S 11 = false) (h : TksC M nb tk sc q mn fa) : TksC M1 nb tk sc q mn fa :=
  ⟨fun r hr => Tk_ag hu (h.1 r hr) f (FK.no (by rw [mo_cl1 (c := 26) (by rw [(h.1 r hr).1]) (by decide) (by decide)]; exact hs)) (fun x hx => FK.no (by
    obtain ⟨k, l, e⟩ : ∃ k l, kd M x = (k, l) := ⟨_, _, rfl⟩
    have ek : k = 528 := by rw [e] at hx; exact hx
    rw [mo_ar e (by omega) (by omega), ek]; exact hs)) (fun _ _ => rfl) rfl rfl rfl, h.2⟩
/-- a task changes: nothing to the others -/
theorem Tks_w {r : Nat} (hu : UN M) (hr : r < nb) (h : TksC M nb tk sc q mn fa) (hx : ExA (fun z => z = tk r) M M1) (hv : ∀ r', r' ≠ r → ∀ a, a = 265 ∨ a = 266 ∨ a = 267 ∨ a = 268 → vI sc' a r' = vI sc a r') (hm : ∀ r', r' ≠ r → mn' r' = mn r') (hn : TkC M1 (tk r) sc' q mn' fa r) : TksC M1 nb tk sc' q mn' fa :=
  ⟨fun r' hr' => by
    by_cases c : r' = r
    · rw [c]; exact hn
    · exact Tk_ag hu (h.1 r' hr') hx (fun e => c (h.2 r' r hr' hr e)) (fun x hx2 e => by rw [e, (h.1 r hr).1] at hx2; exact absurd hx2 (by decide)) (hv r' c) rfl (hm r' c) rfl, h.2⟩
theorem Tks_sc (h : TksC M nb tk sc q mn fa) (hv : ∀ r, r < nb → ∀ a, a = 265 ∨ a = 266 ∨ a = 267 ∨ a = 268 → vI sc' a r = vI sc a r) : TksC M nb tk sc' q mn fa :=
  ⟨fun r hr => by
    have t := h.1 r hr
    unfold TkC tldT at *
    rw [hv r hr 265 (by omega), hv r hr 266 (by omega), hv r hr 267 (by omega), hv r hr 268 (by omega)]
    exact t, h.2⟩
/-- a life more of a work -/
theorem cp_life (hc : CPs M m al N pa own sd ps sn pu rf tm lf b w h) (ht : t < 12 + N) : CPs M m al N pa own sd ps sn pu rf tm (fup lf t (lf t + 1)) b (dtW t w) h := by
  obtain ⟨c1, c2, c3, c4, c5, c6, c7, c8, c9⟩ := hc
  have pf : prF (wQ (dtW t w)) = prF (wQ w) := by
    funext p C
    unfold prF
    show ((wQ w p).map (dtQ t)).any _ = _
    rw [List.any_map]
    rfl
  refine ⟨c1, c2, by rw [pf]; exact c3, c4, c5, ?_, ?_, c8, c9⟩
  · obtain ⟨r1, r2, r3, r4⟩ := c6
    refine ⟨r1, r2, fun p hp => ?_, r4⟩
    obtain ⟨a1, a2, a3, a4, a5, a6, a7, a8, a9⟩ := r3 p hp
    have ln : (wQ (dtW t w) p).length = (wQ w p).length := List.length_map _
    refine ⟨a1, a2, by rw [ln]; exact a3, by rw [ln]; exact a4, a5, a6, a7, a8, fun i hi => ?_⟩
    rw [ln] at hi
    have e : (wQ (dtW t w) p).getD i q0 = dtQ t ((wQ w p).getD i q0) := by
      show ((wQ w p).map (dtQ t)).getD i q0 = _
      rw [List.getD_eq_getElem?_getD, List.getD_eq_getElem?_getD, List.getElem?_map, List.getElem?_eq_getElem hi]
      rfl
    rw [e]
    obtain ⟨b1, b2, b3, b4, b5, b6, b7, b8, b9, b10⟩ := a9 i hi
    refine ⟨b1, b2, b3, b4, b5, b6, b7, b8, ?_, b10⟩
    obtain ⟨y, hy⟩ : ∃ y, y = (wQ w p).getD i q0 := ⟨_, rfl⟩
    rw [← hy] at b9 ⊢
    show wkC M N pa (fup lf t (lf t + 1)) ((h.2.2.2.2 p).2 i) (if qWrk y = some t then none else qWrk y)
    cases hq : qWrk y with
    | none =>
      rw [hq] at b9
      rw [if_neg (by simp)]
      rcases b9 with z | ⟨t', z1, z2, z3⟩
      · exact Or.inl z
      · refine Or.inr ⟨t', z1, z2, ?_⟩
        unfold fup
        by_cases c : t' = t
        · rw [if_pos c, ← c]; omega
        · rw [if_neg c]; exact z3
    | some t' =>
      rw [hq] at b9
      obtain ⟨z1, z2, z3⟩ := b9
      by_cases c : t' = t
      · rw [if_pos (by rw [c])]
        exact Or.inr ⟨t', z1, z2, by rw [c, fup_eq, z3, c]; omega⟩
      · rw [if_neg (fun z => c (Option.some.inj z))]
        exact ⟨z1, z2, by rw [fup_ne c]; exact z3⟩
  · intro p hp
    obtain ⟨l1, l2⟩ := c7 p hp
    refine ⟨fun y hy c hc => ?_, ?_⟩
    · obtain ⟨z, hz, e⟩ := List.mem_map.mp (show y ∈ (wQ w p).map (dtQ t) from hy)
      exact l1 z hz c (by rw [← e] at hc; exact hc)
    · show ((wQ w p).map (dtQ t)).Pairwise _
      rw [List.pairwise_map]
      exact l2
end CWORK
