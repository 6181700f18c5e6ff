section CANS3
variable {M M1 : MM} {a p m n kx x c k s A h skip : Nat} {l bs ql : List Int} {D : Nat → Nat} {S : List Post} {Z : Nat → Prop}
theorem mtc_snoc {h : Nat} {bs : List Int} {ps : List Post} {y : Post} : mtcS h bs (ps ++ [y]) = mtcS h bs ps ++ if mayF h bs y.2.1 y.2.2.1 = true then [y] else [] := by
  unfold mtcS
  rw [List.filter_append, List.filter_cons]
  rfl
theorem page_snoc {skip : Nat} {ps : List Post} {y : Post} : (ps.length < skip → pageS skip (ps ++ [y]) = pageS skip ps ∧ moreS skip (ps ++ [y]) = moreS skip ps) ∧ (skip ≤ ps.length → (pageS skip ps).length = 30 → moreS skip ps = false → pageS skip (ps ++ [y]) = pageS skip ps ∧ moreS skip (ps ++ [y]) = true) ∧ (skip ≤ ps.length → (pageS skip ps).length ≠ 30 → pageS skip (ps ++ [y]) = pageS skip ps ++ [itm y] ∧ moreS skip (ps ++ [y]) = false) := by
  unfold pageS moreS
  simp only [List.length_map, List.length_take, List.length_drop, List.length_append, List.length_singleton]
  refine ⟨fun h => ?_, fun h h1 h2 => ?_, fun h h1 => ?_⟩
  · rw [List.drop_eq_nil_of_le (by simp; omega), List.drop_eq_nil_of_le (by omega)]
    refine ⟨rfl, ?_⟩
    simp; omega
  · rw [List.drop_append_of_le_length h, List.take_append_of_le_length (by rw [List.length_drop]; omega)]
    refine ⟨rfl, ?_⟩
    simp; omega
  · have e1 : (ps.drop skip).length = ps.length - skip := List.length_drop
    rw [List.drop_append_of_le_length h, List.take_of_length_le (by rw [List.length_append, e1]; simp; omega), List.take_of_length_le (by omega)]
    refine ⟨by simp, ?_⟩
    simp; omega
theorem c_putMatches (hb : BdS M m) (hpe : PeS M a p) (ha : 276 ≤ a) (hS : StC M (a + 3) A D S) (hD : ∀ i, i < A → 276 ≤ D i) (hkx : isK M kx) (hk44 : kx + 1 ≠ 33 ∧ kx + 1 ≠ 34 ∧ kx + 1 ≠ 35 ∧ kx + 1 ≠ 36) (hx : x = 22 ∨ x = 31) (hq : PkC M x ql) (hm2 : ql.length = 50 + n) (hm3 : (ql.getD 48 0 * 256 + ql.getD 49 0).toNat = n) (hm4 : n ≤ 290) (hh : 1 ≤ ql.getD 47 0 ∧ ql.getD 47 0 ≤ 8) (hp : PkC M 33 l) (hl : l.length = 25) :
    ∃ M', f_X17_putMatches (a : Int) ((33 : Nat) : Int) (kx : Int) (x : Int) M = some M' ∧ PkC M' 33 (l ++ (b2i (moreS (ql.getD 45 0 * 256 + ql.getD 46 0).toNat (mtcS (ql.getD 47 0).toNat (rdF ql 47) (choS (ky (kC M kx)) S))) :: (((pageS (ql.getD 45 0 * 256 + ql.getD 46 0).toNat (mtcS (ql.getD 47 0).toNat (rdF ql 47) (choS (ky (kC M kx)) S))).length : Nat) : Int) :: (pageS (ql.getD 45 0 * 256 + ql.getD 46 0).toNat (mtcS (ql.getD 47 0).toNat (rdF ql 47) (choS (ky (kC M kx)) S))).flatMap be3)) ∧ Ex BA M M' := by
  have nB : ∀ z, 276 ≤ z → ¬ BA z := fun z hz q => by unfold BA at q; omega
  obtain ⟨M1, b1, b2, b3⟩ := c_fread (k := 47) (m := n) hb.2.2.2.2.2.2.1.2.2.1 hq hm3 hm4 (by omega)
  generalize hgh : (ql.getD 47 0).toNat = h at *
  generalize hgb : rdF ql 47 = bs at *
  have b45 := pk_b hq (q := 45) (by omega)
  have b46 := pk_b hq (q := 46) (by omega)
  obtain ⟨skip, hsk⟩ : ∃ skip, skip = (ql.getD 45 0 * 256 + ql.getD 46 0).toNat := ⟨_, rfl⟩
  rw [← hsk]
  have x1 : Ex BA M M1 := b3.mono (fun q z => by unfold BA; omega)
  have q1 : PkC M1 x ql := hq.ex b3 (by omega) (by omega)
  have p1 : PkC M1 33 l := hp.ex b3 (by decide) (by decide)
  obtain ⟨M2, c1, c2, c3⟩ := e_X4_put (v := 0) (n := 2) p1 (by decide) (by omega)
  rw [show be 0 2 = [0, 0] by decide] at c2
  have x2 : Ex BA M M2 := x1.trans (c3.mono (fun q z => by unfold BA; omega))
  have f2 : FltC M2 35 h bs := b2.ex c3 (by decide) (by decide)
  have bM2 := hb.ex x2 (by unfold BA; omega)
  have peM2 := hpe.ex x2 (nB _ (by omega))
  have stM2 := hS.ex x2 (nB _ (by omega)) (fun i hi => ⟨nB _ (hD i hi), nB _ (by have := hD i hi; omega)⟩)
  have k2 : isK M2 kx := hkx.ex x2
  have ek : kC M2 kx = kC M kx := by funext i; exact (c3.rI (by omega) i).trans (b3.rI (by omega) i)
  obtain ⟨n0, s1, s2', s3, s4⟩ := c_count stM2 k2
  rw [ek] at s2' s3 s4
  generalize hcs : choS (ky (kC M kx)) S = cs at *
  have lS := hS.2.2.2.2.2.2.2.1.1
  have okc : ∀ j, j < cs.length → cs.getD j post0 = S.getD (n0 + j) post0 := fun j hj => by
    rw [s4, List.getD_eq_getElem?_getD, List.getElem?_take_of_lt hj, List.getElem?_drop, ← List.getD_eq_getElem?_getD]
  -- the end
  have fin : ∀ (U : MM) (ps : List Post) (x4 x9 : Int), PkC U 33 (l ++ [0, 0] ++ (pageS skip ps).flatMap be3) → Ex BA M U → ∃ M', j_X17_putMatches_150 ((33 : Nat) : Int) (((pageS skip ps).length : Nat) : Int) (b2i (moreS skip ps)) U = some M' ∧ PkC M' 33 (l ++ (b2i (moreS skip ps) :: (((pageS skip ps).length : Nat) : Int) :: (pageS skip ps).flatMap be3)) ∧ Ex BA M M' := by
    intro U ps _ _ hU xU
    have l30 : (pageS skip ps).length ≤ 30 := by unfold pageS; rw [List.length_map, List.length_take]; omega
    have lf := be3_flat (pageS skip ps)
    generalize pageS skip ps = pg at *
    have b01 := b2i_v (b := moreS skip ps)
    have w1 := pk_setb (j := 25) (v := b2i (moreS skip ps)) hU (by rw [List.length_append, List.length_append]; simp; omega) (by omega)
    have w2 := pk_setb (j := 26) (v := ((pg.length : Nat) : Int)) w1 (by rw [List.length_set, List.length_append, List.length_append]; simp; omega) (by omega)
    have eL : ((l ++ [0, 0] ++ pg.flatMap be3).set 25 (b2i (moreS skip ps))).set 26 ((pg.length : Nat) : Int) = l ++ (b2i (moreS skip ps) :: ((pg.length : Nat) : Int) :: pg.flatMap be3) := by
      rw [List.append_assoc, List.set_append_right _ _ (by omega), List.set_append_right _ _ (by omega), hl]
      rfl
    rw [eL] at w2
    refine ⟨_, ?_, w2, xU.trans ((Ex.st (by unfold BA; omega)).trans (Ex.st (by unfold BA; omega)))⟩
    unfold j_X17_putMatches_150 j_X17_putMatches_166
    have k34 : kd U (33 + 1) = (113, 460) := hU.1.2.2
    rcases b01 with e | e <;> rw [e]
    · rw [gfr_e hU.1.1, hU.1.2.1, Option.bind_some, if_pos w32_0, sab_e k34 (by decide) (by decide) (j := 25) (by decide) (by decide), Option.bind_some, gfr_e (by rw [kd_sI]; exact hU.1.1), rR_sI, hU.1.2.1, Option.bind_some, sab_e (show kd (sI U (33 + 1) 25 (sx8 0)) (33 + 1) = (113, 460) from k34) (by decide) (by decide) (j := 26) (by decide) (by decide), Option.bind_some]
    · rw [gfr_e hU.1.1, hU.1.2.1, Option.bind_some, if_neg (by rw [w32_1]; decide), sab_e k34 (by decide) (by decide) (j := 25) (by decide) (by decide), Option.bind_some, gfr_e (by rw [kd_sI]; exact hU.1.1), rR_sI, hU.1.2.1, Option.bind_some, sab_e (show kd (sI U (33 + 1) 25 (sx8 1)) (33 + 1) = (113, 460) from k34) (by decide) (by decide) (j := 26) (by decide) (by decide), Option.bind_some]
  have goal := lp_inv2 (b := fun t : Int × Int × Int × Int × MM => b_X17_putMatches_61 (a : Int) ((33 : Nat) : Int) t.1 t.2.1 t.2.2.1 ((n0 + cs.length : Nat) : Int) t.2.2.2.1 t.2.2.2.2) (fun j t => t.1 = ((skip - (mtcS h bs (cs.take j)).length : Nat) : Int) ∧ t.2.1 = (((pageS skip (mtcS h bs (cs.take j))).length : Nat) : Int) ∧ t.2.2.1 = b2i (moreS skip (mtcS h bs (cs.take j))) ∧ t.2.2.2.1 = ((n0 + j : Nat) : Int) ∧ FltC t.2.2.2.2 35 h bs ∧ PkC t.2.2.2.2 33 (l ++ [0, 0] ++ (pageS skip (mtcS h bs (cs.take j))).flatMap be3) ∧ Ex BA M t.2.2.2.2) (fun r => ∃ M', r = some M' ∧ PkC M' 33 (l ++ (b2i (moreS skip (mtcS h bs cs)) :: (((pageS skip (mtcS h bs cs)).length : Nat) : Int) :: (pageS skip (mtcS h bs cs)).flatMap be3)) ∧ Ex BA M M') cs.length
    (by
      rintro j ⟨t1, t2, t3, t4, U⟩ hj ⟨rfl, rfl, rfl, rfl, g1, g2, g3⟩
      dsimp only at g1 g2 g3 ⊢
      have bU := hb.ex g3 (by unfold BA; omega)
      have peU := hpe.ex g3 (nB _ (by omega))
      have stU := hS.ex g3 (nB _ (by omega)) (fun i hi => ⟨nB _ (hD i hi), nB _ (by have := hD i hi; omega)⟩)
      obtain ⟨d1, d2, d3, d4, d5, d6, d7, d8, d9⟩ := id stU
      have hc := (d5 (n0 + j) (by omega)).2
      have hDj := hD (n0 + j) (by omega)
      have cj := d9 (n0 + j) (by omega)
      have hok := d8.2.2 _ (getD_mem (d := post0) (show n0 + j < S.length by omega))
      have tk : cs.take (j + 1) = cs.take j ++ [cs.getD j post0] := take_s hj
      by_cases cm : moreS skip (mtcS h bs (cs.take j)) = true
      · -- more than a page
        refine Or.inr ?_
        obtain ⟨M', f1, f2', f3⟩ := fin U (mtcS h bs (cs.take j)) 0 0 g2 g3
        have esp : mtcS h bs cs = mtcS h bs (cs.take j) ++ mtcS h bs (cs.drop j) := by
          unfold mtcS; rw [← List.filter_append, List.take_append_drop]
        have pm := page_more (r := mtcS h bs (cs.drop j)) cm
        refine ⟨some M', ?_, M', rfl, ?_, f3⟩
        · unfold b_X17_putMatches_61
          rw [w32_nn (by omega), w32_nn (by omega), if_pos (by omega), cm, show b2i true = 1 from rfl, if_neg (by rw [w32_1]; decide)]
          rw [cm, show b2i true = 1 from rfl] at f1
          rw [f1]
        · rw [esp, pm.1, pm.2]
          rw [cm] at f2'
          exact f2'
      · have cm : moreS skip (mtcS h bs (cs.take j)) = false := by simpa using cm
        have hy : cs.getD j post0 = poc U (D (n0 + j)) := by rw [okc j hj, cj]
        have k1 : 0 ≤ rI U (D (n0 + j)) 1 ∧ rI U (D (n0 + j)) 1 < 32 := by have := hok.2.1; rw [← cj] at this; exact this
        have k2 : 0 ≤ rI U (D (n0 + j)) 2 ∧ rI U (D (n0 + j)) 2 < 16 := by have := hok.2.2.1; rw [← cj] at this; exact this
        obtain ⟨U', m1, m2, m3⟩ := c_fmay (o := rI U (D (n0 + j)) 1) (d := rI U (D (n0 + j)) 2) g1 bU.2.2.2.2.2.2.2.2.1 (by omega) (by omega) (by omega)
        have m3' : Ex BA U U' := m3.mono (fun q z => by unfold BA; omega)
        have pU' : PkC U' 33 (l ++ [0, 0] ++ (pageS skip (mtcS h bs (cs.take j))).flatMap be3) := g2.ex m3 (by decide) (by decide)
        have ms := mtc_snoc (h := h) (bs := bs) (ps := cs.take j) (y := cs.getD j post0)
        rw [← tk] at ms
        have emay : mayF h bs (cs.getD j post0).2.1 (cs.getD j post0).2.2.1 = mayF h bs (rI U (D (n0 + j)) 1) (rI U (D (n0 + j)) 2) := by rw [hy]; rfl
        rw [emay] at ms
        have l30 : (pageS skip (mtcS h bs (cs.take j))).length ≤ 30 := by unfold pageS; rw [List.length_map, List.length_take]; omega
        have lm : (mtcS h bs (cs.take j)).length ≤ j := by
          unfold mtcS
          have := List.length_filter_le (fun x : Post => mayF h bs x.2.1 x.2.2.1) (cs.take j)
          rw [List.length_take] at this
          omega
        have eb : b_X17_putMatches_61 (a : Int) ((33 : Nat) : Int) ((skip - (mtcS h bs (cs.take j)).length : Nat) : Int) (((pageS skip (mtcS h bs (cs.take j))).length : Nat) : Int) (b2i (moreS skip (mtcS h bs (cs.take j)))) ((n0 + cs.length : Nat) : Int) ((n0 + j : Nat) : Int) U = if mayF h bs (rI U (D (n0 + j)) 1) (rI U (D (n0 + j)) 2) = true then (if (mtcS h bs (cs.take j)).length < skip then cnt (((skip - (mtcS h bs (cs.take j)).length - 1 : Nat) : Int), (((pageS skip (mtcS h bs (cs.take j))).length : Nat) : Int), 0, ((n0 + (j + 1) : Nat) : Int), U') else if (pageS skip (mtcS h bs (cs.take j))).length = 30 then cnt (((skip - (mtcS h bs (cs.take j)).length : Nat) : Int), (((pageS skip (mtcS h bs (cs.take j))).length : Nat) : Int), 1, ((n0 + (j + 1) : Nat) : Int), U') else (f_X17_putPosting ((33 : Nat) : Int) ((D (n0 + j) : Nat) : Int) U').bind fun M1 => cnt (((skip - (mtcS h bs (cs.take j)).length : Nat) : Int), (((pageS skip (mtcS h bs (cs.take j))).length + 1 : Nat) : Int), 0, ((n0 + (j + 1) : Nat) : Int), M1)) else cnt (((skip - (mtcS h bs (cs.take j)).length : Nat) : Int), (((pageS skip (mtcS h bs (cs.take j))).length : Nat) : Int), 0, ((n0 + (j + 1) : Nat) : Int), U') := by
          unfold b_X17_putMatches_61 j_X17_putMatches_144
          rw [cm, show b2i false = 0 from rfl, w32_nn (by omega), w32_nn (by omega), if_pos (by omega), if_pos w32_0, gfr_e (by rw [peU.1]), peU.2.2.1.2.2.2.1, Option.bind_some, gfr_e d1.1, d1.2.1, Option.bind_some, lar_n d1.2.2.1 (by decide) (by omega) (by decide), Option.bind_some, (d5 (n0 + j) (by omega)).1, gfr_e (by rw [peU.1]), peU.2.2.1.1, Option.bind_some, gfr_e (by rw [bU.1]), bU.2.2.1.2.2.2.2.2.2.2.1, Option.bind_some, gfi_e (by rw [hc.1]), Option.bind_some, gfi_e (by rw [hc.1]), Option.bind_some, ck_e g1.1.1, m1, Option.bind_some]
          dsimp only
          cases mayF h bs (rI U (D (n0 + j)) 1) (rI U (D (n0 + j)) 2)
          · rw [show b2i false = 0 from rfl, if_pos w32_0, if_neg (by decide), cadd1]
            rfl
          · rw [if_pos rfl, show b2i true = 1 from rfl, if_neg (by rw [w32_1]; decide), w32_nn (by omega), w32_nn (by omega), show w32 30 = 30 by decide]
            by_cases z1 : (mtcS h bs (cs.take j)).length < skip
            · rw [if_pos z1, if_pos (by omega), cadd1, cdec1 (by omega)]
              rfl
            · rw [if_neg z1, if_neg (by omega)]
              by_cases z2 : (pageS skip (mtcS h bs (cs.take j))).length = 30
              · rw [if_pos z2, if_pos (by omega), cadd1]
                rfl
              · rw [if_neg z2, if_neg (by omega), cadd1, cadd1]
                rfl
        rw [eb]
        refine Or.inl ?_
        by_cases cy : mayF h bs (rI U (D (n0 + j)) 1) (rI U (D (n0 + j)) 2) = true
        · rw [if_pos cy] at ms ⊢
          have ps := page_snoc (skip := skip) (ps := mtcS h bs (cs.take j)) (y := cs.getD j post0)
          rw [← ms] at ps
          have lms : (mtcS h bs (cs.take (j + 1))).length = (mtcS h bs (cs.take j)).length + 1 := by rw [ms, List.length_append]; rfl
          by_cases z1 : (mtcS h bs (cs.take j)).length < skip
          · rw [if_pos z1]
            obtain ⟨y1, y2⟩ := ps.1 z1
            refine ⟨_, rfl, ?_, ?_, ?_, rfl, m2, ?_, g3.trans m3'⟩
            · dsimp only; rw [lms]; omega
            · dsimp only; rw [y1]
            · dsimp only; rw [y2, cm]; rfl
            · dsimp only; rw [y1]; exact pU'
          · rw [if_neg z1]
            by_cases z2 : (pageS skip (mtcS h bs (cs.take j))).length = 30
            · rw [if_pos z2]
              obtain ⟨y1, y2⟩ := ps.2.1 (by omega) z2 cm
              refine ⟨_, rfl, ?_, ?_, ?_, rfl, m2, ?_, g3.trans m3'⟩
              · dsimp only; rw [lms]; omega
              · dsimp only; rw [y1]
              · dsimp only; rw [y2]; rfl
              · dsimp only; rw [y1]; exact pU'
            · rw [if_neg z2]
              obtain ⟨y1, y2⟩ := ps.2.2 (by omega) z2
              have hc' := hc.ex m3
              have epo : poc U' (D (n0 + j)) = cs.getD j post0 := by
                rw [hy]
                unfold poc
                have e : kC U' (D (n0 + j) + 1) = kC U (D (n0 + j) + 1) := by funext i; exact m3'.rI (nB _ (by omega)) i
                rw [e, m3'.rI (nB _ hDj), m3'.rI (nB _ hDj), m3'.rI (nB _ hDj), m3'.rI (nB _ hDj)]
              obtain ⟨U2, w1, w2, w3⟩ := c_putPosting pU' hc' (by omega) (by rw [epo, okc j hj]; exact hok) (by rw [List.length_append, List.length_append, be3_flat]; simp; omega)
              rw [w1, Option.bind_some]
              have m2' : FltC U2 35 h bs := m2.ex w3 (by decide) (by decide)
              refine ⟨_, rfl, ?_, ?_, ?_, rfl, m2', ?_, g3.trans (m3'.trans (w3.mono (fun q z => by unfold BA; omega)))⟩
              · dsimp only; rw [lms]; omega
              · dsimp only; rw [y1, List.length_append]; rfl
              · dsimp only; rw [y2]; rfl
              · dsimp only
                rw [y1, List.flatMap_append]
                rw [epo, List.append_assoc (l ++ [0, 0])] at w2
                simpa using w2
        · rw [if_neg cy] at ms ⊢
          rw [List.append_nil] at ms
          refine ⟨_, rfl, ?_, ?_, ?_, rfl, m2, ?_, g3.trans m3'⟩
          · dsimp only; rw [ms]
          · dsimp only; rw [ms]
          · dsimp only; rw [ms, cm]; rfl
          · dsimp only; rw [ms]; exact pU')
    (by
      rintro ⟨t1, t2, t3, t4, U⟩ ⟨rfl, rfl, rfl, rfl, g1, g2, g3⟩
      dsimp only at g1 g2 g3 ⊢
      rw [List.take_length] at g2 ⊢
      obtain ⟨M', f1, f2', f3⟩ := fin U (mtcS h bs cs) 0 0 g2 g3
      refine ⟨some M', ?_, M', rfl, f2', f3⟩
      unfold b_X17_putMatches_61
      rw [if_neg (Int.lt_irrefl _), f1]) FU 0 ((skip : Int), 0, 0, (n0 : Int), M2) (by omega) (by unfold FU; omega) ⟨by simp [mtcS], by simp [mtcS, pageS], by simp [mtcS, moreS]; rfl, rfl, f2, by simpa [mtcS, pageS] using c2, x2⟩
  obtain ⟨M', r1, r2, r3⟩ := goal
  refine ⟨M', ?_, r2, r3⟩
  unfold f_X17_putMatches l_X17_putMatches_61
  rw [gfr_e (by rw [hpe.1]), hpe.2.2.1.1, Option.bind_some, gfr_e (by rw [hb.1]), hb.2.2.1.2.2.2.2.2.2.2.1, Option.bind_some, ck_e hb.2.2.2.2.2.2.1.2.2.1.1, show f_X10_read ((35 : Nat) : Int) (x : Int) 47 M = some M1 from b1, Option.bind_some, ck_e q1.1.1, show f_X4_get (x : Int) 45 2 M1 = some (ql.getD 45 0 * 256 + ql.getD 46 0) from pk_get2 q1 (q := 45) rfl (by omega), Option.bind_some, ck_e p1.1.1, show f_X4_put ((33 : Nat) : Int) 0 2 M1 = some M2 from c1, Option.bind_some, gfr_e (by rw [peM2.1]), peM2.2.2.1.2.2.2.1, Option.bind_some, ck_e stM2.1.1, s1, Option.bind_some, Option.bind_some, ck_e stM2.1.1, s2', Option.bind_some, cadd, show ql.getD 45 0 * 256 + ql.getD 46 0 = (skip : Int) by rw [hsk]; omega]
  exact r1
end CANS3
