/-! the object of a work's publishings is made when it is first needed -/
section CPUBN
variable {S : Nat → Bool} {M M1 : MM} {V W sc : VV} {m al N p t t' nb oth Z L k K kx n P : Nat} {pa tk : Nat → Nat} {own : Nat → Ky} {sd ps sn pu rf : Nat → Int} {tm : Int} {lf : Nat → Nat} {b b0 B : Nat × Nat} {h h' : Gh} {eg : EG} {pb as : Nat → Option Nat} {mn sto : Nat → Int} {fa : Nat → Nat} {Y Y1 : Ys} {Lb : Nat → List Trm} {LA : Nat → List Nat} {dn : Nat → Int} {ev tn nS : Nat → Nat} {KL : List Ky}
theorem Wks_n {T : Nat} {lk : Nat → LkA} (hL : LksC M m T pa lk lf eg) (ht : t < T) (hx : ExA (A12 (wa pa t)) M M1) (h : WksC M T pa tk pb as sc) (ht' : t' < T) (c : t' ≠ t) : Wk12 M1 pa tk pb as sc t' := by
  obtain ⟨w1, _⟩ := hL.2.2.1 t' ht'
  obtain ⟨v1, _⟩ := hL.2.2.1 t ht
  have hlt := WlS_lt hL.1 w1
  have n0 : ¬ A12 (wa pa t) (wa pa t') := fun ha => by
    rcases ha with e | e | e
    · exact c (hL.2.1 t' t ht' ht e)
    · have := w1.1; rw [e, show wa pa t + 2 = wa pa t + 1 + 1 from rfl, v1.2.2.2.1.2.2] at this; exact absurd this (by decide)
    · have := w1.1; rw [e, v1.2.2.2.2.1] at this; exact absurd this (by decide)
  have n3 : ¬ A12 (wa pa t) (wa pa t' + 3) := fun ha => by
    rcases ha with e | e | e
    · have := w1.2.2.2.2.1; rw [e] at this; have h2 := v1.1; rw [this] at h2; exact absurd h2 (by decide)
    · have := w1.2.2.2.2.1; rw [e, show wa pa t + 2 = wa pa t + 1 + 1 from rfl, v1.2.2.2.1.2.2] at this; exact absurd this (by decide)
    · exact c (hL.2.1 t' t ht' ht (by omega))
  exact Wk12_ag (h t' ht') (fun i => hx.rI (by omega) n0 i) (fun i => hx.rR (by omega) n0 i) (fun i => hx.rI (by omega) n3 i) (fun _ a z => rfl) rfl
theorem c_pubNew (hW : CW M m al N pa own sd ps sn pu rf tm lf b0 eg tk pb as nb mn fa Lb LA dn sto Y h) (h3 : ∀ t, t < 12 + N → yv Y 226 t ≠ 0 → yv Y 227 t = 3 → yv Y 247 t ≤ 3) (ht : t < 12 + N) (h0 : yv Y 226 t = 0) (hpb : pb t = none) :
    ∃ M', f_X11_publishing ((wa pa t : Nat) : Int) M = some ((nN M : Int), M') ∧ CW M' m al N pa own sd ps sn pu rf tm lf (b0.1 + 2, b0.2 + 71) eg tk (fup pb t (some (nN M))) as nb mn fa Lb LA dn sto Y h ∧ FK (fun z => z == 12) M M' := by
  obtain ⟨⟨⟨hP, hL, hWk, hTk⟩, hPub, hLb, hrec, hmn, hst⟩, hA⟩ := hW
  obtain ⟨hu, u1, u2, u3⟩ := id hL
  obtain ⟨w1, w2, w3, w4, w5⟩ := u2 t ht
  obtain ⟨a, ha⟩ : ∃ a, a = wa pa t := ⟨_, rfl⟩
  rw [← ha] at w1 w5 ⊢
  have la : a < nN M := hu.lt (by rw [w1.1]; decide)
  obtain ⟨k1, k2, k3, k4⟩ := hWk t ht
  rw [← ha] at k1 k2 k3
  rw [hpb] at k1
  obtain ⟨M2, hM2⟩ : ∃ M2, M2 = sR (nw (nwo M 30 7 47) 618 64) (nN M) 0 ((nN M + 1 : Nat) : Int) := ⟨_, rfl⟩
  obtain ⟨M3, hM3⟩ : ∃ M3, M3 = sR M2 a 10 (nN M : Int) := ⟨_, rfl⟩
  have x2 : ExA (A12 a) M M2 := by rw [hM2]; exact ((ExA_nwo (A := A12 a)).trans ExA_nw).newR (Nat.le_refl _)
  have x3 : ExA (A12 a) M M3 := by rw [hM3]; exact x2.oldR (Or.inl rfl)
  have n3 : nN M3 = nN M + 2 := by rw [hM3, hM2]; rfl
  have m3 : nU M3 = nU M + 71 := by rw [hM3, hM2]; show nU (nw (nwo M 30 7 47) 618 64) = _; rw [nU_nw, nU_nwo]
  have R : ∀ i, i ≠ 10 → rR M3 a i = rR M a i := fun i hi => by
    rw [hM3, rR_sR, if_neg (by omega), hM2, rR_sR, if_neg (by omega), rR_nw, if_neg (by rw [nN_nwo]; omega), rR_nwo, if_neg (by omega)]
  have I : ∀ i, rI M3 a i = rI M a i := fun i => by
    rw [hM3, rI_sR, hM2, rI_sR, rI_nw, if_neg (by rw [nN_nwo]; omega), rI_nwo, if_neg (by omega)]
  have f := FK_w12 (t := t) (pa := pa) (by rw [← ha]; exact w1) (by rw [← ha]; exact x3)
  have PS : PbS M3 (nN M) := by
    refine ⟨?_, ?_, ?_⟩
    · rw [hM3, kd_sR, hM2, kd_sR, kd_nw, if_neg (by rw [nN_nwo]; omega), kd_nwo, if_pos rfl]
    · rw [hM3, rR_sR, if_neg (by omega), hM2, rR_sR, if_pos ⟨rfl, rfl⟩]
    · rw [hM3, kd_sR, hM2, kd_sR, kd_nw, if_pos (by rw [nN_nwo])]
  have pne : ∀ t', t' < 12 + N → pb t' ≠ some (nN M) := fun t' ht' e => by
    have := (hPub.1 t' ht' _ e).1.1
    have := hu (nN M) (Nat.le_refl _)
    rw [(hPub.1 t' ht' _ e).1.1] at this
    exact absurd this (by decide)
  have Pub' := Pubs_fk f hu (by decide) hPub
  refine ⟨M3, ?_, ⟨⟨⟨?_, LksC_w hL ht (by rw [← ha]; exact x3) (fun i hi => by rw [← ha]; exact R i (by omega)) (by rw [← ha, I]; exact w5) (fun _ _ => rfl), fun t' ht' => ?_, Tks_fk hu f (by decide) hTk⟩, ?_, Libs_fk f hu (by decide) hLb, hrec, hmn, hst⟩, Asks_fk f hu (by decide) h3 hA⟩, f⟩
  · unfold f_X11_publishing j_X11_publishing_18
    rw [gfr_e w1.1, Option.bind_some, k1, if_pos (show pO none = -1 from rfl), nob_e, Option.bind_some]
    show nn ((nN M : Nat) : Int) _ = _
    rw [nn_e]
    unfold f_X30_init f_X12_init
    rw [nn_e, nn_e, Option.bind_some, nar_e (j := 64) (by decide) (by decide), Option.bind_some, nN_nwo]
    rw [pfr_e (by rw [kd_nw, if_neg (by rw [nN_nwo]; omega), kd_nwo, if_pos rfl]), Option.bind_some, Option.bind_some]
    rw [show sR (nw (nwo M 30 7 47) 618 64) (nN M) 0 ((nN M + 1 : Nat) : Int) = M2 from hM2.symm, pfr_e (by rw [x2.kd la]; exact w1.1), Option.bind_some, ← hM3, gfr_e (by rw [x3.kd la]; exact w1.1), Option.bind_some, hM3, rR_sR, if_pos ⟨rfl, rfl⟩]
  · have := cp_w6 (d1 := 2) (d2 := 71) hP f (by decide) (BoC_fk f hu (by decide) hP.1) (by omega) (by omega)
    exact cp_b this (by unfold eb; simp only; omega) (by unfold eb; simp only; omega)
  · by_cases c : t' = t
    · rw [c]
      refine ⟨by rw [← ha, fup_eq, hM3, rR_sR, if_pos ⟨rfl, rfl⟩]; rfl, by rw [← ha, R 11 (by decide)]; exact k2, by rw [← ha, I]; exact k3, fun z => absurd h0 z⟩
    · have := Wks_n hL ht (by rw [← ha]; exact x3) hWk ht' c
      unfold Wk12 at this ⊢
      rw [fup_ne c]; exact this
  · refine ⟨fun t' ht' P hP => ?_, fun t1 t2 h1 h2 hn e => ?_⟩
    · by_cases c : t' = t
      · rw [c, fup_eq] at hP
        injection hP with hP
        rw [← hP, c]
        exact ⟨PS, fun z => absurd h0 z⟩
      · rw [fup_ne c] at hP
        exact Pub'.1 t' ht' P hP
    · by_cases c1 : t1 = t <;> by_cases c2 : t2 = t
      · rw [c1, c2]
      · rw [c1, fup_eq, fup_ne c2] at e
        exact absurd e.symm (pne t2 h2)
      · rw [c2, fup_eq, fup_ne c1] at e
        exact absurd e (pne t1 h1)
      · rw [fup_ne c1] at hn e
        rw [fup_ne c2] at e
        exact hPub.2 t1 t2 h1 h2 hn e
end CPUBN
