theorem finR_arr {c k : Nat} (h : 64 ≤ c) : finR c k = false := by
  have hl : finT.length ≤ c := by show 32 ≤ _; omega
  unfold finR
  rw [List.getD_eq_getElem?_getD (l := finT), List.getElem?_eq_none hl]
  rfl
section NETFR
variable {S : Nat → Bool} {M M1 : MM}
theorem PkC_fr {a : Nat} {l : List Int} (h : FrM S M M1) (hu : UN M) (h0 : S (mo M a) = false) (h1 : S (mo M (a + 1)) = false) (hp : PkC M a l) : PkC M1 a l := by
  have hl := isP_lt hu hp.1
  exact ⟨isP_fr h hu hp.1, by rw [fr_rI h (by omega) h0]; exact hp.2.1, hp.2.2.1, fun i hi => by rw [fr_rU h hl h1]; exact hp.2.2.2 i hi⟩
theorem isD_lt {d : Nat} (hu : UN M) (h : isD M d) : d + 2 < nN M := isP_lt hu h.2.2.2
theorem isD_fr {d : Nat} (h : FrM S M M1) (hu : UN M) (hd : isD M d) : isD M1 d := by
  have hl := isD_lt hu hd
  exact ⟨by rw [h.2.2.1 d (by omega)]; exact hd.1, by rw [h.2.2.2.1 d 3 (by omega) (by rw [hd.1]; decide)]; exact hd.2.1, by rw [h.2.2.1 (d + 1) (by omega)]; exact hd.2.2.1, isP_fr h hu hd.2.2.2⟩
theorem DgC_fr {d : Nat} {x : Dg} (h : FrM S M M1) (hu : UN M) (hs : S 1 = false) (hd : DgC M d x) : DgC M1 d x := by
  have hl := isD_lt hu hd.1
  have md := mo_isD hd.1
  have h0 : S (mo M d) = false := by rw [md.1]; exact hs
  exact ⟨isD_fr h hu hd.1, by rw [fr_rI h (by omega) h0]; exact hd.2.1, by rw [fr_rI h (by omega) h0]; exact hd.2.2.1, by rw [fr_rI h (by omega) h0]; exact hd.2.2.2.1, PkC_fr h hu (by rw [md.2.1]; exact hs) (by rw [md.2.2]; exact hs) hd.2.2.2.2⟩
theorem NetS_fr (h : FrM S M M1) (hu : UN M) (hS : NetS M) : NetS M1 := by
  obtain ⟨h1, h2, h3, h4, h5, h6, h7, h8⟩ := hS
  have l19 : 19 < nN M := hu.lt (by rw [h1]; decide)
  have l20 : 20 < nN M := hu.lt (by rw [h5]; decide)
  have l21 : 21 < nN M := hu.lt (by rw [h6]; decide)
  have l22 : 22 < nN M := hu.lt (by rw [h7]; decide)
  exact ⟨by rw [h.2.2.1 _ l19]; exact h1, by rw [h.2.2.2.1 _ _ l19 (by rw [h1]; decide)]; exact h2, by rw [h.2.2.2.1 _ _ l19 (by rw [h1]; decide)]; exact h3, by rw [h.2.2.2.1 _ _ l19 (by rw [h1]; decide)]; exact h4, by rw [h.2.2.1 _ l20]; exact h5, by rw [h.2.2.1 _ l21]; exact h6, by rw [h.2.2.1 _ l22]; exact h7, isP_fr h hu h8⟩
theorem NetRep_fr {st : Nat → Int} {tm lo : Int} {fl : List Dg} {fA : Nat} (h : FrM S M M1) (hu : UN M) (hs : S 1 = false) (hr : NetRep M st tm lo fl fA) : NetRep M1 st tm lo fl fA := by
  obtain ⟨hS, h1, h2, h3, h4, D, f1, f2, f3, f4, f5, f6⟩ := hr
  have l19 : 19 < nN M := hu.lt (by rw [hS.1]; decide)
  have l20 : 20 < nN M := hu.lt (by rw [hS.2.2.2.2.1]; decide)
  have l21 : 21 < nN M := hu.lt (by rw [hS.2.2.2.2.2.1]; decide)
  have s19 : S (mo M 19) = false := by rw [mo19 hS]; exact hs
  have s20 : S (mo M 20) = false := by rw [mo20 hS]; exact hs
  have s21 : S (mo M 21) = false := by rw [mo21 hS]; exact hs
  exact ⟨NetS_fr h hu hS, fun i hi => by rw [fr_rI h l20 s20]; exact h1 i hi, by rw [fr_rI h l19 s19]; exact h2, by rw [fr_rI h l19 s19]; exact h3, by rw [fr_rI h l19 s19]; exact h4, D, f1, f2, f3, fun i hi => ⟨by rw [fr_rR h l21 s21]; exact (f4 i hi).1, isD_fr h hu (f4 i hi).2⟩, fun i a b => by rw [fr_rR h l21 s21]; exact f5 i a b, fun i hi => DgC_fr h hu hs (f6 i hi)⟩
end NETFR
/-- a new Datagram -/
theorem e_newD {M : MM} : ∃ M', ((nob 25 4 29 M).bind fun r1 => nn r1.1 <| (f_X25_init r1.1 r1.2).bind fun M1 => some M1) = some M' ∧ isD M' (nN M) ∧ FrM (fun _ => false) M M' ∧ nN M' = nN M + 3 ∧ nU M' = nU M + 466 := by
  let n := nN M
  let A := nwo M 25 4 29
  let B := nwo A 4 2 28
  let C := nw B 113 460
  let E := sR C (n + 1) 0 ((n + 2 : Nat) : Int)
  let F := sR E n 3 ((n + 1 : Nat) : Int)
  have kC0 : kd C n = (25, 29) := by
    show kd (nw (nwo (nwo M 25 4 29) 4 2 28) 113 460) n = _
    rw [kd_nw, if_neg (by show n ≠ n + 1 + 1; omega), kd_nwo, if_neg (by show n ≠ n + 1; omega), kd_nwo, if_pos rfl]
  have kC1 : kd C (n + 1) = (4, 28) := by
    show kd (nw (nwo (nwo M 25 4 29) 4 2 28) 113 460) (n + 1) = _
    rw [kd_nw, if_neg (by show n + 1 ≠ n + 1 + 1; omega), kd_nwo]
    exact if_pos rfl
  have kC2 : kd C (n + 2) = (113, 460) := by
    show kd (nw (nwo (nwo M 25 4 29) 4 2 28) 113 460) (n + 2) = _
    rw [kd_nw]
    exact if_pos rfl
  refine ⟨F, ?_, ⟨kC0, ?_, kC1, by rw [show kd F (n + 1) = (4, 28) from kC1], ?_, kC2⟩, ?_, rfl, by show nU M + 4 + 2 + 460 = _; rfl⟩
  · rw [nob_e, Option.bind_some]
    show nn ((n : Nat) : Int) _ = _
    rw [nn_e]
    show ((f_X25_init ((n : Nat) : Int) A).bind fun M1 => some M1) = some F
    unfold f_X25_init
    rw [nn_e, nob_e, Option.bind_some]
    show ((nn (((n + 1 : Nat)) : Int) ((f_X4_init (((n + 1 : Nat)) : Int) B).bind fun M1 => (pfr 25 3 ((n : Nat) : Int) (((n + 1 : Nat)) : Int) M1).bind fun M2 => some M2)).bind fun M1 => some M1) = some F
    unfold f_X4_init
    rw [nn_e, nn_e, nar_e (j := 460) (by decide) (by decide), Option.bind_some]
    show ((((pfr 4 0 (((n + 1 : Nat)) : Int) (((n + 2 : Nat)) : Int) C).bind fun M1 => some M1).bind fun M1 => (pfr 25 3 ((n : Nat) : Int) (((n + 1 : Nat)) : Int) M1).bind fun M2 => some M2).bind fun M1 => some M1) = some F
    rw [pfr_e (by rw [kC1]), Option.bind_some, Option.bind_some, pfr_e (by rw [kd_sR, kC0])]
    rfl
  · show rR (sR (sR C (n + 1) 0 _) n 3 _) n 3 = _
    rw [rR_sR, if_pos ⟨rfl, rfl⟩]
  · show rR (sR (sR C (n + 1) 0 _) n 3 _) (n + 1) 0 = _
    rw [rR_sR, if_neg (by omega), rR_sR, if_pos ⟨rfl, rfl⟩]
  · have a1 : FrM (fun _ => false) M C := (FrM_nwo.trans FrM_nwo).trans FrM_nw
    exact FrM_sR_new (FrM_sR_new a1 (by show n ≤ n + 1; omega)) (Nat.le_refl n)
theorem e_fly {M : MM} {st : Nat → Int} {tm lo from_ to_ due : Int} {fl : List Dg} {fA p : Nat} {l : List Int} (hu : UN M) (h : NetRep M st tm lo fl fA) (hlt : fl.length < 400) (hp : PkC M p l) (hp28 : (kd M p).2 ≠ 28) (hw : w32 from_ = from_ ∧ w32 to_ = to_ ∧ w32 due = due) :
    ∃ M' fA', f_X7_fly ((19 : Nat) : Int) from_ to_ due (p : Int) M = some M' ∧ NetRep M' st tm lo (insF fl (from_, to_, due, l)) fA' ∧ FrM m1 M M' ∧ fA ≤ fA' ∧ nN M' + 3 * fA = nN M + 3 * fA' ∧ nU M' + 466 * fA = nU M + 466 * fA' := by
  obtain ⟨hS, h1, h2, h3, h4, D, f1, f2, f3, f4, f5, f6⟩ := id h
  have hwn : w32 (fl.length : Int) = (fl.length : Int) := w32_id (by omega) (by omega)
  have hr0 : rI M 19 2 = (fl.length : Int) := h4
  unfold f_X7_fly
  rw [gfr_e (by rw [hS.1]), hS.2.2.1, Option.bind_some, gfi_e (by rw [hS.1]), Option.bind_some, h4, lar_e hS.2.2.2.2.2.1 (by decide) (by decide) hwn hlt, Option.bind_some]
  by_cases hc : fl.length < fA
  · rw [(f4 _ hc).1, if_neg (by omega)]
    obtain ⟨M', g1, g2, g3, g4, g5⟩ := e_fly28 h hc hp hp28 hw
    exact ⟨M', fA, g1, g2, g3, Nat.le_refl _, by omega, by omega⟩
  · have hfe : fl.length = fA := by omega
    rw [f5 _ (by omega) hlt, if_pos rfl, Option.bind_some, Option.bind_some]
    obtain ⟨M1, n1, n2, n3, n4, n5⟩ := e_newD (M := M)
    have hu1 : UN M1 := n3.2.1 hu
    have hb1 := NetRep_fr n3 hu rfl h
    have hS1 := hb1.1
    let M2 := sR M1 21 fl.length ((nN M : Nat) : Int)
    have hn21 : nN M ≠ 21 := fun q => by
      have := n2.1; rw [q, hS1.2.2.2.2.2.1] at this; cases this
    have hn21' : nN M + 1 ≠ 21 := fun q => by
      have := n2.2.2.1; rw [q, hS1.2.2.2.2.2.1] at this; cases this
    have ne21 : ∀ d, isD M1 d → d ≠ 21 ∧ d + 1 ≠ 21 := fun d hd => ⟨(fun q => by have := hd.1; rw [q, hS1.2.2.2.2.2.1] at this; cases this), (fun q => by have := hd.2.2.1; rw [q, hS1.2.2.2.2.2.1] at this; cases this)⟩
    have isP2 : ∀ a, a ≠ 21 → isP M1 a → isP M2 a := fun a ha hx => ⟨hx.1, by show rR (sR _ _ _ _) a 0 = _; rw [rR_sR, if_neg (fun q => ha q.1)]; exact hx.2.1, hx.2.2⟩
    have isD2 : ∀ d, isD M1 d → isD M2 d := fun d hd => ⟨hd.1, by show rR (sR _ _ _ _) d 3 = _; rw [rR_sR, if_neg (fun q => (ne21 d hd).1 q.1)]; exact hd.2.1, hd.2.2.1, isP2 _ (ne21 d hd).2 hd.2.2.2⟩
    have PkC2 : ∀ a l, a ≠ 21 → PkC M1 a l → PkC M2 a l := fun a l ha hx => ⟨isP2 a ha hx.1, hx.2.1, hx.2.2.1, hx.2.2.2⟩
    have DgC2 : ∀ d x, DgC M1 d x → DgC M2 d x := fun d x hx => ⟨isD2 d hx.1, hx.2.1, hx.2.2.1, hx.2.2.2.1, PkC2 _ _ (ne21 d hx.1).2 hx.2.2.2.2⟩
    have l21 : 21 < nN M := hu.lt (by rw [hS.2.2.2.2.2.1]; decide)
    have r21 : ∀ i, rR M1 21 i = rR M 21 i := fun i => fr_rR n3 l21 rfl i
    have hS2 : NetS M2 := by
      obtain ⟨a1, a2, a3, a4, a5, a6, a7, a8⟩ := hS1
      exact ⟨a1, by show rR (sR _ _ _ _) 19 0 = _; rw [rR_sR, if_neg (by omega)]; exact a2, by show rR (sR _ _ _ _) 19 1 = _; rw [rR_sR, if_neg (by omega)]; exact a3, by show rR (sR _ _ _ _) 19 5 = _; rw [rR_sR, if_neg (by omega)]; exact a4, a5, a6, a7, isP2 22 (by decide) a8⟩
    obtain ⟨-, b1, b2, b3, b4, -⟩ := hb1
    have hD0 : ∀ i, i < fA → D i < nN M := fun i hi => by have := isD_lt hu (f4 i hi).2; omega
    have hrep : NetRep M2 st tm lo fl (fA + 1) := by
      refine ⟨hS2, b1, b2, b3, b4, fup D fA (nN M), by omega, by omega, ?_, ?_, ?_, ?_⟩
      · intro i j hi hj hij
        have hij : (if i = fA then nN M else D i) = (if j = fA then nN M else D j) := hij
        by_cases qi : i = fA
        · by_cases qj : j = fA
          · omega
          · rw [if_pos qi, if_neg qj] at hij; have := hD0 j (by omega); omega
        · by_cases qj : j = fA
          · rw [if_neg qi, if_pos qj] at hij; have := hD0 i (by omega); omega
          · rw [if_neg qi, if_neg qj] at hij; exact f3 i j (by omega) (by omega) hij
      · intro i hi
        show rR (sR M1 21 fl.length _) 21 i = (((if i = fA then nN M else D i) : Nat) : Int) ∧ isD M2 (if i = fA then nN M else D i)
        rw [rR_sR]
        by_cases qi : i = fA
        · rw [if_pos ⟨rfl, by omega⟩, if_pos qi]; exact ⟨rfl, isD2 _ n2⟩
        · rw [if_neg (by omega), if_neg qi, r21]; exact ⟨(f4 i (by omega)).1, isD2 _ (isD_fr n3 hu (f4 i (by omega)).2)⟩
      · intro i hi1 hi2
        show rR (sR M1 21 fl.length _) 21 i = -1
        rw [rR_sR, if_neg (by omega), r21]; exact f5 i (by omega) hi2
      · intro i hi
        show DgC M2 (if i = fA then nN M else D i) _
        rw [if_neg (by omega)]
        exact DgC2 _ _ (DgC_fr n3 hu rfl (f6 i hi))
    have hp21 : p ≠ 21 := fun q => by have := hp.1.1; rw [q, hS.2.2.2.2.2.1] at this; cases this
    have hp2 : PkC M2 p l := PkC2 p l hp21 (PkC_fr n3 hu rfl rfl hp)
    have hkp : kd M2 p = kd M p := n3.2.2.1 p (by have := isP_lt hu hp.1; omega)
    obtain ⟨M', g1, g2, g3, g4, g5⟩ := e_fly28 hrep (by omega) hp2 (by rw [hkp]; exact hp28) hw
    have hbind : ((nob 25 4 29 M).bind fun r1 => nn r1.1 <| (f_X25_init r1.1 r1.2).bind fun M1 => (sar 5 ((21 : Nat) : Int) (fl.length : Int) r1.1 M1).bind fun M2 => j_X7_fly_28 ((19 : Nat) : Int) from_ to_ due (p : Int) M2) = some M' := by
      rw [nob_e, Option.bind_some] at n1 ⊢
      show nn ((nN M : Nat) : Int) _ = _
      have n1 : nn ((nN M : Nat) : Int) ((f_X25_init ((nN M : Nat) : Int) (nwo M 25 4 29)).bind fun M1 => some M1) = some M1 := n1
      rw [nn_e] at n1 ⊢
      obtain ⟨Z, z1, z2⟩ := bind_some' n1
      have : Z = M1 := Option.some.inj z2
      subst this
      show ((f_X25_init ((nN M : Nat) : Int) (nwo M 25 4 29)).bind fun M1 => (sar 5 ((21 : Nat) : Int) (fl.length : Int) ((nN M : Nat) : Int) M1).bind fun M2 => j_X7_fly_28 ((19 : Nat) : Int) from_ to_ due (p : Int) M2) = some M'
      rw [z1, Option.bind_some, sar_e hS1.2.2.2.2.2.1 (by decide) (by decide) hwn hlt (by rw [n2.1]; rfl), Option.bind_some]
      exact g1
    have mo1 : mo M1 21 = 1 := mo21 hS1
    have fr1 : FrM m1 M M1 := n3.mono (fun m hm => by cases hm)
    have fr2 : FrM m1 M1 M2 := FrM_sR (by rw [mo1]; rfl) (finR_arr (by rw [hS1.2.2.2.2.2.1]; decide))
    refine ⟨M', fA + 1, hbind, g2, (fr1.trans fr2).trans g3, by omega, ?_, ?_⟩
    · have : nN M2 = nN M1 := rfl
      omega
    · have : nU M2 = nU M1 := rfl
      omega
