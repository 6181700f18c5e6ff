/-! a new record: the class -/
def recS (r : Nat) (kind : Int) (p : Nat) (sc : VV) : VV := st2 (st2 (st2 (st2 (st2 (st2 sc 265 r kind) 266 r (p : Int)) 267 r 0) 268 r 0) 269 r 0) 156 91 ((r : Int) + 1)
def recZ (r : Nat) (kind : Int) (p : Nat) (Y : Ys) : Ys := (yw Y, yl Y, recS r kind p (ys Y), yq Y)
def recC (x0 kind p : Int) (M : MM) : Option MM :=
  (gfi 1 8 x0 M).bind fun v1 => (gfr 1 7 x0 M).bind fun v2 => (nob 26 7 37 M).bind fun r1 => nn r1.1 <| (f_X26_init r1.1 kind p r1.2).bind fun M1 => (sar 4 v2 v1 r1.1 M1).bind fun M2 => (gfi 1 8 x0 M2).bind fun v3 => pfi 1 8 x0 (v3 + 1) M2
section CREC
variable {S : Nat → Bool} {M M1 : MM} {V W sc : VV} {m al N p t t' nb oth Z L k K kx n P lim : Nat} {pa tk : Nat → Nat} {own : Nat → Ky} {sd ps sn pu rf : Nat → Int} {tm kind : Int} {lf : Nat → Nat} {b b0 B : Nat × Nat} {h h' : Gh} {eg : EG} {pb as : Nat → Option Nat} {mn sto : Nat → Int} {fa : Nat → Nat} {Y Yo Y1 : Ys} {Lb : Nat → List Trm} {LA : Nat → List Nat} {dn : Nat → Int} {ev tn nS : Nat → Nat}
theorem recS_ne {a i : Nat} (hz : ¬ ((265 ≤ a ∧ a ≤ 269) ∧ i = nb)) (hz2 : ¬ (a = 156 ∧ i = 91)) : vI (recS nb kind p sc) a i = vI sc a i := by
  unfold recS
  rw [vI_ne hz2, vI_ne (by omega), vI_ne (by omega), vI_ne (by omega), vI_ne (by omega), vI_ne (by omega)]
theorem recS_eq (hk : 0 ≤ kind ∧ kind ≤ 5) (hp : p < 32) (hn : nb < 256) : vI (recS nb kind p sc) 265 nb = kind ∧ vI (recS nb kind p sc) 266 nb = (p : Int) ∧ vI (recS nb kind p sc) 267 nb = 0 ∧ vI (recS nb kind p sc) 268 nb = 0 ∧ vI (recS nb kind p sc) 269 nb = 0 ∧ vI (recS nb kind p sc) 156 91 = ((nb + 1 : Nat) : Int) := by
  unfold recS
  refine ⟨?_, ?_, ?_, ?_, ?_, ?_⟩
  · rw [vI_ne (by omega), vI_ne (by omega), vI_ne (by omega), vI_ne (by omega), vI_ne (by omega), vI_eq rfl, w32_id (by omega) (by omega)]
  · rw [vI_ne (by omega), vI_ne (by omega), vI_ne (by omega), vI_ne (by omega), vI_eq rfl, w32_nn (by omega)]
  · rw [vI_ne (by omega), vI_ne (by omega), vI_ne (by omega), vI_eq rfl]; rfl
  · rw [vI_ne (by omega), vI_ne (by omega), vI_eq rfl]; rfl
  · rw [vI_ne (by omega), vI_eq rfl]; rfl
  · rw [vI_eq rfl, w32_id (by omega) (by omega)]; omega
theorem Asks_s {T : Nat} {sc' : VV} {q : Qs} (h : AsksC M T as sc q) (hv : ∀ t', ∀ a, (226 ≤ a ∧ a ≤ 264) → vI sc' a t' = vI sc a t') (h3 : ∀ t, t < T → vI sc 226 t ≠ 0 → vI sc 227 t = 3 → vI sc 247 t ≤ 3) : AsksC M T as sc' q := ⟨fun t' ht' Q hQ => by
  obtain ⟨a1, a2⟩ := h.1 t' ht' Q hQ
  refine ⟨a1, fun z1 z2 => ?_⟩
  rw [hv t' 226 (by omega)] at z1
  rw [hv t' 227 (by omega)] at z2
  exact AsF_ag (a2 z1 z2) a1 (fun _ _ _ => rfl) (fun a y => hv t' a (by omega)) (fun i hi => ⟨hv _ 250 (by omega), hv _ 252 (by omega)⟩) (h3 t' ht' z1 z2) ⟨rfl, rfl, rfl, rfl⟩ (fun i hi => ⟨rfl, rfl⟩), h.2⟩
theorem c_rec (hW : CW M m al N pa own sd ps sn pu rf tm lf b0 eg tk pb as nb mn fa Lb LA dn sto Y h) (hX : XC M nb tk) (h3 : ∀ t, t < 12 + N → yv Y 226 t ≠ 0 → yv Y 227 t = 3 → yv Y 247 t ≤ 3) (h29 : ∀ t, t < 12 + N → yv Y 226 t ≠ 0 → yv Y 229 t < (nb : Int)) (hn : nb < 256) (hk : 0 ≤ kind ∧ kind ≤ 5) (hp : p < 32) :
    ∃ M', recC ((0 : Nat) : Int) kind (p : Int) M = some M' ∧ CW M' m al N pa own sd ps sn pu rf tm lf (b0.1 + 1, b0.2 + 7) eg (fup tk nb (nN M)) pb as (nb + 1) (fup mn nb 0) fa Lb LA dn sto (recZ nb kind p Y) h ∧ XC M' (nb + 1) (fup tk nb (nN M)) ∧ FK (fun z => z == 8) M M' := by
  obtain ⟨⟨⟨hP, hL, hWk, hTk⟩, hPub, hLb, hrec, hmn, hst⟩, hA⟩ := hW
  have hu := hL.1
  obtain ⟨h0, ⟨a1, a2, a3, a4, a5, a6, a7, a8, a9⟩, ⟨k1, k2, k3, k4, k5⟩, h4, h5, h6⟩ := id hX
  have l0 : 0 < nN M := hu.lt (by rw [h0.1]; decide)
  have l5 : 5 < nN M := hu.lt (by rw [k5]; show 452 ≠ 63; decide)
  obtain ⟨q1, q2, q3, q4, q5, q6⟩ := recS_eq (nb := nb) (sc := ys Y) hk hp hn
  obtain ⟨M2, hM2⟩ : ∃ M2, M2 = sI (sI (nwo M 26 7 37) (nN M) 0 kind) (nN M) 1 (p : Int) := ⟨_, rfl⟩
  obtain ⟨M3, hM3⟩ : ∃ M3, M3 = sR M2 5 nb ((nN M : Nat) : Int) := ⟨_, rfl⟩
  obtain ⟨M4, hM4⟩ : ∃ M4, M4 = sI M3 0 8 ((nb : Int) + 1) := ⟨_, rfl⟩
  have A5 : (fun z => z = 0 ∨ z = 5) 5 := Or.inr rfl
  have A0 : (fun z => z = 0 ∨ z = 5) 0 := Or.inl rfl
  have x2 : ExA (fun z => z = 0 ∨ z = 5) M M2 := by rw [hM2]; exact ((ExA_nwo (A := fun z => z = 0 ∨ z = 5)).newI (Nat.le_refl _)).newI (Nat.le_refl _)
  have x4 : ExA (fun z => z = 0 ∨ z = 5) M M4 := by rw [hM4, hM3]; exact (x2.oldR A5).oldI A0
  have m0 : mo M 0 = 8 := mo_cl1 h0.1 (by decide) (by decide)
  have m5 : mo M 5 = 8 := mo_ar k5 (by decide) (by decide)
  have f : FK (fun z => z == 8) M M4 := FK_exa x4 (fun z _ hz => by
    rcases hz with e | e
    · rw [e, m0]; rfl
    · rw [e, m5]; rfl)
  have kn2 : kd M2 (nN M) = (26, 37) := by rw [hM2]; show kd (nwo M 26 7 37) (nN M) = _; rw [kd_nwo, if_pos rfl]
  have kn : kd M4 (nN M) = (26, 37) := by rw [hM4, hM3]; exact kn2
  have ni : ∀ i, rI M4 (nN M) i = if i = 1 then (p : Int) else if i = 0 then kind else 0 := fun i => by
    rw [hM4, rI_ne (by omega), hM3, rI_sR, hM2]
    by_cases c1 : i = 1
    · rw [if_pos c1, c1, rI_eq rfl, w32_nn (by omega)]
    · rw [if_neg c1, rI_ne (by omega)]
      by_cases c0 : i = 0
      · rw [if_pos c0, c0, rI_eq rfl, w32_id (by omega) (by omega)]
      · rw [if_neg c0, rI_ne (by omega), rI_nwo, if_pos rfl]
  have nr : rR M4 (nN M) 6 = -1 := by
    rw [hM4, rR_sI, hM3, rR_sR, if_neg (by omega), hM2]
    show rR (nwo M 26 7 37) (nN M) 6 = -1
    rw [rR_nwo, if_pos rfl]
  have nn4 : nN M4 = nN M + 1 := by rw [hM4, hM3, hM2]; rfl
  have nu4 : nU M4 = nU M + 7 := by rw [hM4, hM3, hM2]; rfl
  have yne : ∀ {a i : Nat}, ¬ ((265 ≤ a ∧ a ≤ 269) ∧ i = nb) → ¬ (a = 156 ∧ i = 91) → vI (recS nb kind p (ys Y)) a i = vI (ys Y) a i := fun z1 z2 => recS_ne z1 z2
  have tkn : ∀ r, r < nb → tk r ≠ nN M := fun r hr e => by
    have := (hTk.1 r hr).1
    rw [e] at this
    have z := hu (nN M) (Nat.le_refl _)
    rw [this] at z
    exact absurd z (by decide)
  refine ⟨M4, ?_, ⟨⟨⟨?_, LksC_fk f (by decide) hL, fun t ht => ?_, ⟨fun r hr => ?_, fun r r' hr hr' e => ?_⟩⟩, ?_, Libs_fk f hu (by decide) hLb, ?_, fun r hr => ?_, fun t ht z1 z2 => ?_⟩, ?_⟩, ?_, f⟩
  · unfold recC f_X26_init
    rw [gfi_e h0.1, Option.bind_some, h5, gfr_e h0.1, Option.bind_some, a5, nob_e, Option.bind_some]
    show nn ((nN M : Nat) : Int) _ = _
    rw [nn_e, nn_e]
    show ((pfi 26 0 ((nN M : Nat) : Int) kind (nwo M 26 7 37)).bind _).bind _ = _
    rw [pfi_e (by rw [kd_nwo, if_pos rfl]), Option.bind_some, pfi_e (by rw [kd_sI, kd_nwo, if_pos rfl]), Option.bind_some, Option.bind_some, ← hM2, sar_e (k := 452) (l := 256) (j := nb) (by rw [x2.kd l5]; exact k5) (by decide) (by decide) (w32_nn (by omega)) hn (by rw [kn2]; rfl), Option.bind_some, ← hM3, gfi_e (by rw [hM3]; show (kd M2 0).1 = 1; rw [x2.kd l0]; exact h0.1), Option.bind_some]
    have e8 : rI M3 0 8 = (nb : Int) := by
      rw [hM3, rI_sR, hM2, rI_ne (by omega), rI_ne (by omega), rI_nwo, if_neg (by omega)]; exact h5
    rw [e8, pfi_e (by rw [hM3]; show (kd M2 0).1 = 1; rw [x2.kd l0]; exact h0.1), ← hM4]
  · have := cp_w6 (d1 := 1) (d2 := 7) hP f (by decide) (BoC_fk f hu (by decide) hP.1) (by omega) (by omega)
    exact cp_b this (by unfold eb; simp only; omega) (by unfold eb; simp only; omega)
  · have w := Wks_fk hL f (by decide) hWk t ht
    unfold Wk12 at w ⊢
    show _ ∧ _ ∧ rI M4 (wa pa t) 6 = vI (recS nb kind p (ys Y)) 226 t ∧ _
    have e : ∀ a, a ≤ 250 → a ≠ 156 → vI (ys (recZ nb kind p Y)) a t = vI (ys Y) a t := fun a ha h1 => yne (by omega) (by omega)
    rw [yne (by omega) (by omega), e 226 (by omega) (by omega), e 227 (by omega) (by omega), e 228 (by omega) (by omega), e 229 (by omega) (by omega), e 241 (by omega) (by omega), e 242 (by omega) (by omega)]
    refine ⟨w.1, w.2.1, w.2.2.1, fun z => ?_⟩
    obtain ⟨g1, g2, g3⟩ := w.2.2.2 z
    refine ⟨g1, ?_, g3⟩
    have lt := h29 t ht z
    have lt : vI (ys Y) 229 t < (nb : Int) := lt
    by_cases c : vI (ys Y) 229 t < 0
    · rw [if_pos c] at g2 ⊢; exact g2
    · rw [if_neg c] at g2 ⊢; rw [fup_ne (by omega)]; exact g2
  · by_cases c : r = nb
    · rw [c, fup_eq]
      refine ⟨kn, ?_, ?_, ?_, ?_, ?_, fun z => ?_, fun _ => nr⟩
      · rw [ni, if_neg (by decide), if_pos rfl]; exact q1.symm
      · rw [ni, if_pos rfl]; exact q2.symm
      · rw [ni, if_neg (by decide), if_neg (by decide)]; exact q3.symm
      · rw [ni, if_neg (by decide), if_neg (by decide)]; exact q4.symm
      · rw [ni, if_neg (by decide), if_neg (by decide), fup_eq]
      · have z1 : vI (recS nb kind p (ys Y)) 267 nb = 1 := z.1
        rw [q3] at z1; exact absurd z1 (by decide)
    · have t0 := (Tks_fk hu f (by decide) hTk).1 r (by omega)
      rw [fup_ne c]
      unfold TkC at t0 ⊢
      have e : ∀ a, vI (ys (recZ nb kind p Y)) a r = vI (recS nb kind p (ys Y)) a r := fun a => rfl
      rw [fup_ne c]
      unfold tldT at t0 ⊢
      rw [e, e, e, e, yne (by omega) (by omega), yne (by omega) (by omega), yne (by omega) (by omega), yne (by omega) (by omega)]
      exact t0
  · by_cases c1 : r = nb <;> by_cases c2 : r' = nb
    · rw [c1, c2]
    · rw [c1, fup_eq, fup_ne c2] at e; exact absurd e.symm (tkn r' (by omega))
    · rw [c2, fup_eq, fup_ne c1] at e; exact absurd e (tkn r (by omega))
    · rw [fup_ne c1, fup_ne c2] at e; exact hTk.2 r r' (by omega) (by omega) e
  · exact Pubs_sc (Pubs_fk f hu (by decide) hPub) (fun t' ht' z1 z2 => by
      have e : ∀ a, a ≤ 250 → a ≠ 156 → vI (ys (recZ nb kind p Y)) a t' = vI (ys Y) a t' := fun a ha h1 => yne (by omega) (by omega)
      rw [e 226 (by omega) (by omega)] at z1
      rw [e 227 (by omega) (by omega)] at z2
      exact ⟨⟨z1, z2⟩, fun a ha => e a (by omega) (by omega)⟩)
  · refine ⟨by omega, fun t ht z => ?_⟩
    have e : ∀ a x, a ≤ 250 → a ≠ 156 → yv (recZ nb kind p Y) a x = yv Y a x := fun a x ha h1 => yne (by omega) (by omega)
    rw [e 226 t (by omega) (by omega)] at z
    obtain ⟨r1, r2, r3⟩ := hrec.2 t ht z
    refine ⟨by rw [e 229 t (by omega) (by omega)]; omega, ?_, fun t' h' hne z' => ?_⟩
    · rw [e 229 t (by omega) (by omega), e 227 t (by omega) (by omega), ← r2]
      exact yne (by omega) (by omega)
    · rw [e 226 t' (by omega) (by omega)] at z'
      rw [e 229 t' (by omega) (by omega), e 229 t (by omega) (by omega)]
      exact r3 t' h' hne z'
  · by_cases c : r = nb
    · rw [c, fup_eq]; exact q5.symm
    · rw [fup_ne c, hmn r (by omega)]
      exact (yne (by omega) (by omega)).symm
  · have e : ∀ a x, a ≤ 250 → a ≠ 156 → yv (recZ nb kind p Y) a x = yv Y a x := fun a x ha h1 => yne (by omega) (by omega)
    rw [e 226 t (by omega) (by omega)] at z1
    rw [e 227 t (by omega) (by omega)] at z2
    have r1 := (hrec.2 t ht z1).1
    rw [e 229 t (by omega) (by omega), hst t ht z1 z2]
    exact (yne (by omega) (by omega)).symm
  · exact Asks_s (Asks_fk f hu (by decide) h3 hA) (fun t' a ha => yne (by omega) (by omega)) h3
  · have R0 : ∀ i, rR M4 0 i = rR M 0 i := fun i => by
      rw [hM4, rR_sI, hM3, rR_sR, if_neg (by omega), hM2]
      show rR (nwo M 26 7 37) 0 i = _
      rw [rR_nwo, if_neg (by omega)]
    have lt : ∀ a k l, kd M a = (k, l) → k ≠ 63 → a < nN M := fun a k l e hk => hu.lt (by rw [e]; exact hk)
    have l4 := lt 4 435 12 k4 (by decide)
    refine ⟨⟨by rw [x4.kd l0]; exact h0.1, by rw [R0]; exact h0.2.1, by rw [R0]; exact h0.2.2⟩, ⟨by rw [R0]; exact a1, by rw [R0]; exact a2, by rw [R0]; exact a3, by rw [R0]; exact a4, by rw [R0]; exact a5, by rw [R0]; exact a6, by rw [R0]; exact a7, by rw [R0]; exact a8, by rw [R0]; exact a9⟩, ⟨by rw [x4.kd (lt 1 385 20 k1 (by decide))]; exact k1, by rw [x4.kd (lt 2 401 500 k2 (by decide))]; exact k2, by rw [x4.kd (lt 3 417 12 k3 (by decide))]; exact k3, by rw [x4.kd l4]; exact k4, by rw [x4.kd l5]; exact k5⟩, fun i hi => by rw [x4.rR l4 (by decide)]; exact h4 i hi, by rw [hM4, rI_eq rfl, w32_id (by omega) (by omega)]; omega, fun r hr => ?_⟩
    rw [hM4, rR_sI, hM3, rR_sR]
    by_cases c : r = nb
    · rw [if_pos ⟨rfl, c⟩, c, fup_eq]
    · rw [if_neg (fun z => c z.2), fup_ne c, hM2]
      show rR (nwo M 26 7 37) 5 r = _
      rw [rR_nwo, if_neg (by omega)]; exact h6 r (by omega)
end CREC
