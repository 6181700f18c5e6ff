def kyP (l : List Int) (p : Nat) : Ky := ky (kB (fun i => l.getD (p + i) 0))
section CKEEP2
variable {M M1 : MM} {s A k o d c n p : Nat} {D : Nat → Nat} {S : List Post} {B : Nat → Prop} {w en : Int} {x : Post} {l : List Int}
theorem kB_congr {f g : Nat → Int} (h : ∀ i, i < 20 → f i = g i) : ky (kB f) = ky (kB g) := by
  rw [ky_eq, ← alleq_kq]
  intro i hi
  unfold kB wd4
  simp only
  rw [h (4 * i + 0) (by omega), h (4 * i + 1) (by omega), h (4 * i + 2) (by omega), h (4 * i + 3) (by omega)]
theorem pk_key (h : PkC M p l) {q : Nat} (hq : q + 20 ≤ l.length) : ky (kB (bC M p q)) = kyP l q := kB_congr (fun i hi => h.2.2.2 (q + i) (by omega))
theorem pk_get1 (h : PkC M p l) {q : Nat} {i : Int} (hi : i = (q : Int)) (hq : q < l.length) : f_X4_get (p : Int) i 1 M = some (l.getD q 0) := by
  rw [e_get1 h.1 hi (by have := h.2.2.1; omega), h.2.2.2 q hq]
theorem pk_get2 (h : PkC M p l) {q : Nat} {i : Int} (hi : i = (q : Int)) (hq : q + 1 < l.length) : f_X4_get (p : Int) i 2 M = some (l.getD q 0 * 256 + l.getD (q + 1) 0) := by
  rw [e_get2 h.1 hi (by have := h.2.2.1; omega), h.2.2.2 q (by omega), h.2.2.2 (q + 1) hq]
theorem pk_b (h : PkC M p l) {q : Nat} (hq : q < l.length) : 0 ≤ l.getD q 0 ∧ l.getD q 0 < 256 := by
  rw [← h.2.2.2 q hq]; exact ⟨rU_lo, rU_hi⟩
theorem PkC.exa (h : ExA B M M1) (hu : UN M) (h1 : ¬ B p) (h2 : ¬ B (p + 1)) (hp : PkC M p l) : PkC M1 p l := by
  have hl : p + 1 < nN M := hu.lt (by rw [hp.1.2.2]; show (113 : Nat) ≠ 63; decide)
  obtain ⟨⟨a1, a2, a3⟩, b1, b2, b3⟩ := hp
  refine ⟨⟨by rw [h.kd (by omega)]; exact a1, by rw [h.rR (by omega) h1]; exact a2, by rw [h.kd hl]; exact a3⟩, by rw [h.rI (by omega) h1]; exact b1, b2, fun i hi => ?_⟩
  rw [← b3 i hi]
  unfold rU
  rw [(h.2.2.2 _ hl h2).1]
theorem c_isEarlier (h : PkC M p l) (hk : k < n) (hn : n ≤ 16) (hl : 46 + 3 * n ≤ l.length) : f_X18_isEarlier (p : Int) (k : Int) M = some (b2i (hasI ((rdI l 46 n).take k) (l.getD (46 + 3 * k) 0) (l.getD (46 + 3 * k + 1) 0))) := by
  have len : (rdI l 46 n).length = n := by unfold rdI; simp
  have b1 := pk_b h (q := 46 + 3 * k) (by omega)
  have b2 := pk_b h (q := 46 + 3 * k + 1) (by omega)
  have bad : ∀ j : Nat, j ≤ k → (∀ i, i < j → ¬ (l.getD (46 + 3 * i) 0 = l.getD (46 + 3 * k) 0 ∧ l.getD (46 + 3 * i + 1) 0 = l.getD (46 + 3 * k + 1) 0)) → hasI ((rdI l 46 n).take j) (l.getD (46 + 3 * k) 0) (l.getD (46 + 3 * k + 1) 0) = false := fun j hj hno => by
    cases hh : hasI ((rdI l 46 n).take j) (l.getD (46 + 3 * k) 0) (l.getD (46 + 3 * k + 1) 0) with
    | false => rfl
    | true =>
      obtain ⟨z, hz, z1, z2⟩ := hasI_iff.mp hh
      obtain ⟨i, hi, rfl⟩ := List.mem_iff_getElem.mp hz
      rw [List.length_take] at hi
      rw [List.getElem_take, ← gd_get (d := it0), rdI_get (by omega)] at z1 z2
      exact absurd ⟨z1, z2⟩ (hno i (by omega))
  unfold f_X18_isEarlier l_X18_isEarlier_2
  refine lp_inv2 (b := fun t : Int => b_X18_isEarlier_2 (p : Int) (k : Int) t M) (fun j t => t = (j : Int) ∧ ∀ i, i < j → ¬ (l.getD (46 + 3 * i) 0 = l.getD (46 + 3 * k) 0 ∧ l.getD (46 + 3 * i + 1) 0 = l.getD (46 + 3 * k + 1) 0)) (fun r => r = some (b2i (hasI ((rdI l 46 n).take k) (l.getD (46 + 3 * k) 0) (l.getD (46 + 3 * k + 1) 0)))) k ?_ ?_ FU 0 0 (by omega) (by unfold FU; omega) ⟨rfl, fun i hi => by omega⟩
  · rintro j t hj ⟨rfl, hno⟩
    have c1 := pk_b h (q := 46 + 3 * j) (by omega)
    have c2 := pk_b h (q := 46 + 3 * j + 1) (by omega)
    unfold b_X18_isEarlier_2
    rw [w32_nn (by omega), w32_nn (by omega), if_pos (by omega), ck_e h.1.1, pk_get2 h (q := 46 + 3 * j) (by omega) (by omega), Option.bind_some, ck_e h.1.1, pk_get2 h (q := 46 + 3 * k) (by omega) (by omega), Option.bind_some, w32_id (by omega) (by omega), w32_id (by omega) (by omega)]
    by_cases e : l.getD (46 + 3 * j) 0 = l.getD (46 + 3 * k) 0 ∧ l.getD (46 + 3 * j + 1) 0 = l.getD (46 + 3 * k + 1) 0
    · rw [if_pos (by rw [e.1, e.2])]
      refine Or.inr ⟨_, rfl, ?_⟩
      rw [hasI_iff.mpr ⟨(rdI l 46 n).getD j it0, ?_, ?_, ?_⟩]
      · rfl
      · rw [gd_get (by rw [len]; omega)]
        refine List.mem_iff_getElem.mpr ⟨j, by rw [List.length_take, len]; omega, ?_⟩
        rw [List.getElem_take]
      · rw [rdI_get (by omega)]; exact e.1
      · rw [rdI_get (by omega)]; exact e.2
    · rw [if_neg (by omega)]
      refine Or.inl ⟨_, rfl, cadd1, fun i hi => ?_⟩
      by_cases q : i = j
      · rw [q]; exact e
      · exact hno i (by omega)
  · rintro t ⟨rfl, hno⟩
    refine ⟨some 0, ?_, ?_⟩
    · unfold b_X18_isEarlier_2
      rw [if_neg (Int.lt_irrefl _)]
    · rw [bad k (Nat.le_refl _) hno]; rfl
theorem c_keep (h : StC M s A D S) (hu : UN M) (hp : PkC M p l) (hn : l.getD 45 0 = (n : Int)) (hn2 : n ≤ 16) (hl : 46 + 3 * n ≤ l.length) (hI : okI (rdI l 46 n)) (he : w32 en = en) :
    ∃ M' A' D', f_X18_keep (s : Int) (p : Int) en M = some (b2i (keepS (kyP l 25) (rdI l 46 n) en S).isSome, M') ∧ StC M' s A' D' ((keepS (kyP l 25) (rdI l 46 n) en S).getD S) ∧ DW M A D A' D' ∧ nN M' + 3 * A = nN M + 3 * A' ∧ nU M' + 11 * A = nU M + 11 * A' ∧ ExA (fun q => A7 s A D q ∨ q = s + 3) M M' := by
  obtain ⟨a1, a2, a3, a4, a5, a6, a7, a8, a9⟩ := id h
  have ls := StS_lt hu a1
  have len : (rdI l 46 n).length = n := by unfold rdI; simp
  obtain ⟨M1, k1, k2, k3⟩ := e_X4_getKey (p := 25) hp.1 a1.2.2.2.2.2 (by decide)
  have f1 : ExC (fun q => q = s + 3) M M1 := (ExC_ex k3).mono (fun q hq => hq)
  have hu1 := f1.un hu
  have nep : p ≠ s + 3 ∧ p + 1 ≠ s + 3 := by
    refine ⟨fun q => ?_, fun q => ?_⟩
    · have := hp.1.1; rw [q, show kd M (s + 3) = (64, 5) from a1.2.2.2.2.2.2.2] at this; cases this
    · have := hp.1.2.2; rw [q, show kd M (s + 3) = (64, 5) from a1.2.2.2.2.2.2.2] at this; cases this
  have hD : ∀ i, i < A → D i ≠ s + 3 ∧ D i + 1 ≠ s + 3 ∧ D i + 2 ≠ s + 3 := fun i hi => by have := st_ne a1 (a5 i hi).2; omega
  have st1 : StC M1 s A D S := h.exa f1.exa hu (by omega) hD
  have p1 : PkC M1 p l := hp.exa f1.exa hu nep.1 nep.2
  have key1 : ky (kC M1 (s + 2)) = kyP l 25 := by
    rw [← pk_key hp (by omega), ky_eq, ← alleq_kq]
    exact k2
  have hk1 : isK M1 (s + 2) := st1.1.2.2.2.2.2
  generalize hkey : kyP l 25 = key at *
  generalize hits : rdI l 46 n = its at *
  have iget : ∀ i, i < n → its.getD i it0 = (l.getD (46 + 3 * i) 0, l.getD (46 + 3 * i + 1) 0, l.getD (46 + 3 * i + 2) 0) := fun i hi => by rw [← hits]; exact rdI_get hi
  have bnd : ∀ i, i < n → ∃ o d : Nat, l.getD (46 + 3 * i) 0 = (o : Int) ∧ l.getD (46 + 3 * i + 1) 0 = (d : Int) ∧ o < 32 ∧ d < 16 ∧ 1 ≤ l.getD (46 + 3 * i + 2) 0 ∧ l.getD (46 + 3 * i + 2) 0 ≤ 15 := fun i hi => by
    have := hI.2 _ (getD_mem (d := it0) (show i < its.length by omega))
    rw [iget i hi] at this
    dsimp only at this
    exact ⟨(l.getD (46 + 3 * i) 0).toNat, (l.getD (46 + 3 * i + 1) 0).toNat, by omega, by omega, by omega, by omega, by omega, by omega⟩
  -- how many are new
  obtain ⟨⟨y, z⟩, n1, hn1, ⟨rfl, rfl⟩, q1⟩ := lp_inv (b := fun t : Int × Int => b_X18_keep_24 (s : Int) (p : Int) en (n : Int) t.1 t.2 M1) (fun j t => t.1 = ((frN key S its j : Nat) : Int) ∧ t.2 = (j : Int)) n
    (by
      rintro j ⟨y, z⟩ hj ⟨rfl, rfl⟩
      dsimp only
      obtain ⟨o, d, e1, e2, e3, e4, -⟩ := bnd j hj
      have ear := c_isEarlier p1 hj hn2 hl
      rw [hits] at ear
      refine ⟨(((frN key S its (j + 1) : Nat) : Int), ((j + 1 : Nat) : Int)), ?_, rfl, rfl⟩
      unfold b_X18_keep_24 j_X18_keep_83 j_X18_keep_84
      rw [w32_nn (by omega), w32_nn (by omega), if_pos (by omega), gfr_e st1.1.1, st1.1.2.2.2.1, Option.bind_some, ck_e p1.1.1, pk_get1 p1 (q := 46 + 3 * j) (by omega) (by omega), Option.bind_some, ck_e p1.1.1, pk_get1 p1 (q := 46 + 3 * j + 1) (by omega) (by omega), Option.bind_some, ck_e st1.1.1, ear, e1, e2]
      have efr : frs key S its j = (!hasP S (key, (o : Int), (d : Int)) && !hasI (its.take j) (o : Int) (d : Int)) := by unfold frs; rw [iget j hj, e1, e2]
      rw [frN_succ, efr]
      rcases c_sfind st1 hk1 e3 e4 with ⟨i, i1, i2, i3⟩ | ⟨i2, i3⟩
      · rw [i2, Option.bind_some, w32_nn (by omega), w32_m1, if_neg (by omega)]
        rw [key1] at i3
        rw [hasP_iff.mpr ⟨_, getD_mem i1, i3⟩]
        simp only [Bool.not_true, Bool.false_and]
        rw [if_neg (by decide), cadd1, Int.add_zero, Nat.add_zero]
        rfl
      · rw [key1] at i3
        rw [i2, Option.bind_some, if_pos rfl, Option.bind_some, hasP_no.mpr i3]
        cases hasI (its.take j) (o : Int) (d : Int)
        · rw [show b2i false = 0 from rfl, w32_0, if_pos rfl, cadd1, cadd1]
          simp only [Bool.not_false, Bool.true_and, if_true]
          rfl
        · rw [show b2i true = 1 from rfl, w32_1, if_neg (by decide), cadd1, Int.add_zero]
          simp only [Bool.not_true, Bool.not_false, Bool.and_false]
          rw [if_neg (by decide), Nat.add_zero]
          rfl) FU 0 (0, 0) (by omega) (by unfold FU; omega) ⟨by unfold frN; simp, rfl⟩
  have hfl : frN key S its n ≤ 16 := by
    unfold frN
    have := List.length_filter_le (frs key S its) (List.range n)
    rw [List.length_range] at this
    omega
  have e93 : f_X18_keep (s : Int) (p : Int) en M = j_X18_keep_93 (s : Int) (p : Int) en (n : Int) ((frN key S its n : Nat) : Int) M1 := by
    unfold f_X18_keep l_X18_keep_24
    rw [gfr_e a1.1, a1.2.2.2.1, Option.bind_some, ck_e hp.1.1, show f_X4_getKey (p : Int) 25 ((s + 2 : Nat) : Int) M = some M1 from k1, Option.bind_some, ck_e p1.1.1, show f_X4_get (p : Int) 45 1 M1 = some (l.getD 45 0) from pk_get1 p1 (q := 45) rfl (by omega), Option.bind_some, hn]
    refine q1.trans ?_
    refine lpN_end (b := fun t : Int × Int => b_X18_keep_24 (s : Int) (p : Int) en (n : Int) t.1 t.2 M1) hn1 ?_
    dsimp only
    unfold b_X18_keep_24
    rw [if_neg (Int.lt_irrefl _)]
  rw [e93]
  unfold j_X18_keep_93
  rw [gfi_e st1.1.1, Option.bind_some, st1.2.1, cadd, show w32 200 = 200 from by decide, w32_nn (by omega)]
  unfold keepS
  rw [len]
  by_cases c200 : S.length + frN key S its n ≤ 200
  · rw [if_neg (by omega), if_pos c200]
    obtain ⟨⟨z, U⟩, n2, hn2', ⟨rfl, A', D', g1, g2, g3, g4, g5, g6⟩, q2⟩ := lp_inv (b := fun t : Int × MM => b_X18_keep_111 (s : Int) (p : Int) en (n : Int) t.1 t.2) (fun j t => t.1 = (j : Int) ∧ ∃ A' D', StC t.2 s A' D' (keepF key (its.take j) en S) ∧ DW M1 A D A' D' ∧ nN t.2 + 3 * A = nN M1 + 3 * A' ∧ nU t.2 + 11 * A = nU M1 + 11 * A' ∧ ExA (A7 s A D) M1 t.2 ∧ (keepF key (its.take j) en S).length = S.length + frN key S its j) n
      (by
        rintro j ⟨z, U⟩ hj ⟨rfl, A', D', g1, g2, g3, g4, g5, g6⟩
        dsimp only at g1 g2 g3 g4 g5 g6 ⊢
        obtain ⟨o, d, e1, e2, e3, e4, e5⟩ := bnd j hj
        have huU := g5.un hu1
        have n7 : ¬ A7 s A D (s + 2) ∧ ¬ A7 s A D (s + 3) ∧ ¬ A7 s A D p ∧ ¬ A7 s A D (p + 1) := by
          refine ⟨?_, ?_, ?_, ?_⟩
          · rintro (q | q | ⟨i, i1, q⟩)
            · omega
            · omega
            · have := st_ne a1 (a5 i i1).2; omega
          · rintro (q | q | ⟨i, i1, q⟩)
            · omega
            · omega
            · have := st_ne a1 (a5 i i1).2; omega
          · rintro (q | q | ⟨i, i1, q⟩)
            · have := hp.1.1; rw [q, a1.1] at this; cases this
            · have := hp.1.1; rw [q, a1.2.2.1] at this; cases this
            · rcases q with q | q
              · have := hp.1.1; rw [q, (a5 i i1).2.1] at this; cases this
              · have := hp.1.1; rw [q, show kd M (D i + 2) = _ from (a5 i i1).2.2.2.2.2.2] at this; cases this
          · rintro (q | q | ⟨i, i1, q⟩)
            · have := a1.1; rw [← q, hp.1.2.2] at this; cases this
            · have := hp.1.2.2; rw [q, a1.2.2.1] at this; cases this
            · rcases q with q | q
              · have := hp.1.2.2; rw [q, (a5 i i1).2.1] at this; cases this
              · have := hp.1.2.2; rw [q, show kd M (D i + 2) = _ from (a5 i i1).2.2.2.2.2.2] at this; cases this
        have pU : PkC U p l := p1.exa g5 hu1 n7.2.2.1 n7.2.2.2
        have kU : ky (kC U (s + 2)) = key := by rw [g5.kC (by rw [f1.nN]; omega) n7.2.1]; exact key1
        have hfm := frN_mono (key := key) (S := S) (its := its) (show j + 1 ≤ n by omega)
        have hsu := frN_succ (key := key) (S := S) (its := its) (k := j)
        have fi := frs_iff (key := key) (S := S) (its := its) (en := en) (k := j) (by omega)
        rw [iget j hj, e1, e2] at fi
        obtain ⟨M', A2, D2, b1, b2, b3, b4, b5, b6⟩ := c_put (w := l.getD (46 + 3 * j + 2) 0) (en := en) (o := o) (d := d) g1 huU g1.1.2.2.2.2.2 (by rw [g1.1.2.2.2.2.1]; decide) (fun hno => by
          rw [kU] at hno
          have := fi.mpr hno
          rw [this, if_pos rfl] at hsu
          omega) e3 e4 e5 he
        rw [kU] at b2
        have ex : putP (keepF key (its.take j) en S) (key, (o : Int), (d : Int), l.getD (46 + 3 * j + 2) 0, en) = keepF key (its.take (j + 1)) en S := by
          rw [keepF_succ (by omega), iget j hj, e1, e2]
        rw [ex] at b2
        refine ⟨(((j + 1 : Nat) : Int), M'), ?_, rfl, A2, D2, b2, g2.trans b3 g5.1, by dsimp only; omega, by dsimp only; omega, g5.trA b6 (fun q hq z => g2.a7 hq z), ?_⟩
        · unfold b_X18_keep_111
          rw [w32_nn (by omega), w32_nn (by omega), if_pos (by omega), gfr_e g1.1.1, g1.1.2.2.2.1, Option.bind_some, ck_e pU.1.1, pk_get1 pU (q := 46 + 3 * j) (by omega) (by omega), Option.bind_some, ck_e pU.1.1, pk_get1 pU (q := 46 + 3 * j + 1) (by omega) (by omega), Option.bind_some, ck_e pU.1.1, pk_get1 pU (q := 46 + 3 * j + 2) (by omega) (by omega), Option.bind_some, ck_e g1.1.1, e1, e2, b1, Option.bind_some, cadd1]
          rfl
        · rw [← ex, hsu]
          by_cases c : frs key S its j = true
          · rw [if_pos c]
            have hno := hasP_no.mp (fi.mp c)
            rw [putP_new (x := (key, (o : Int), (d : Int), l.getD (46 + 3 * j + 2) 0, en)) (fun y hy => hno y hy), insM_len, g6]
            omega
          · rw [if_neg c]
            have hy : hasP (keepF key (its.take j) en S) (key, (o : Int), (d : Int)) = true := by
              cases hh : hasP (keepF key (its.take j) en S) (key, (o : Int), (d : Int)) with
              | true => rfl
              | false => exact absurd (fi.mpr hh) c
            obtain ⟨y, hy1, hy2⟩ := hasP_iff.mp hy
            obtain ⟨i, hi, rfl⟩ := List.mem_iff_getElem.mp hy1
            have hoks := g1.2.2.2.2.2.2.2.1
            rw [putP_set hoks ⟨hkey ▸ kyo_ky (fun i hi => w32_w32 _), ⟨Int.natCast_nonneg o, by show (o : Int) < 32; omega⟩, ⟨Int.natCast_nonneg d, by show (d : Int) < 16; omega⟩, e5, he⟩ hi (by rw [gd_get hi, hy2]; rfl), List.length_set, g6, Nat.add_zero]) FU 0 (0, M1) (by omega) (by unfold FU; omega) ⟨rfl, A, D, st1, DW.refl, rfl, rfl, ExA.refl, by unfold frN; simp [keepF]⟩
    dsimp only at g1 g2 g3 g4 g5 g6
    rw [show its.take n = its by rw [List.take_of_length_le (by omega)]] at g1
    refine ⟨U, A', D', ?_, g1, ⟨g2.1, fun i hi => by have := g2.2 i hi; rw [f1.nN] at this; exact this⟩, by rw [f1.nN] at g3; exact g3, by rw [f1.nU] at g4; exact g4, (f1.mono (B := fun q => A7 s A D q ∨ q = s + 3) (fun q z => Or.inr z)).exa.trA g5 (fun q _ z => Or.inl z)⟩
    unfold l_X18_keep_111
    refine q2.trans ?_
    refine lpN_end (b := fun t : Int × MM => b_X18_keep_111 (s : Int) (p : Int) en (n : Int) t.1 t.2) hn2' ?_
    dsimp only
    unfold b_X18_keep_111
    rw [if_neg (Int.lt_irrefl _)]
    rfl
  · rw [if_pos (by omega), if_neg c200]
    exact ⟨M1, A, D, rfl, st1, DW.refl, by rw [f1.nN], by rw [f1.nU], (f1.mono (B := fun q => A7 s A D q ∨ q = s + 3) (fun q z => Or.inr z)).exa⟩
end CKEEP2
