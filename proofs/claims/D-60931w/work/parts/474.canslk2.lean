section CANSLK2
variable {Z : Nat → Prop} {M M1 M2 : MM} {m al N p t nb n kx o : Nat} {pa tk : Nat → Nat} {own : Nat → Ky} {sd ps sn pu rf : Nat → Int} {tm how : Int} {lf : Nat → Nat} {b0 : Nat × Nat} {h : Gh} {eg : EG} {pb as : Nat → Option Nat} {mn sto : Nat → Int} {fa : Nat → Nat} {Y : Ys} {l : List Int} {key : Ky}
theorem lu_ned {d : Nat} {tgt : Ky} {E : List Ent} {A : Nat} {D : Nat → Nat} {u j : Nat} (hL : LuC M u m tgt E A D) (hj : j < A) (hd : d = D j) : d ≠ u := fun e => by
  have hen := (hL.2.2.2.2.2.1 j hj).2
  rw [← hd, e] at hen
  have := hL.1.1
  rw [hen.1] at this
  exact absurd this (by decide)
/-- a lookup of the class is answered -/
theorem c_ansLook (hC : CB M m al N pa own sd ps sn pu rf tm lf b0 eg tk pb as nb mn fa Y h) (ht : t < 12 + N) (hq : PkC M 22 l) (hb : isBL l) (hwl : wellL l = true) (hty : l.getD 0 0 = tyL (yl Y t).2.1 + 1) (hk : isK M kx) (hkx : kd M kx ≠ (3, 30) ∧ kd M kx ≠ (3, 12)) (hkey : ky (kC M kx) = key) (h22 : mo M 22 = 9 ∧ mo M 23 = 9) :
    ∃ M' eg', f_X11_answered ((wa pa t : Nat) : Int) 0 (kx : Int) ((22 : Nat) : Int) M = (f_X11_goOn ((wa pa t : Nat) : Int) M').bind (fun M1 => some M1) ∧ CB M' m al N pa own sd ps sn pu rf tm lf b0 eg' tk pb as nb mn fa (yw Y, fup (yl Y) t (lkA1 key l (yl Y t)), ys Y, yq Y) h ∧ FK (fun z => z == 6 || z == 7) M M' := by
  obtain ⟨hP, hL, hW, hT⟩ := id hC
  obtain ⟨hu, u1, u2, u3⟩ := id hL
  obtain ⟨w1, w2, w3, w4, w5⟩ := u2 t ht
  obtain ⟨a, ha⟩ : ∃ a, a = wa pa t := ⟨_, rfl⟩
  have k15 : (kd M (a + 5)).1 = 15 := by rw [ha, w2.1.1]
  obtain ⟨vals, hvals⟩ : ∃ vals, vals = (yl Y t).2.1 := ⟨_, rfl⟩
  rw [← hvals] at hty w4
  have l20 := wl_len hwl
  obtain ⟨cN, hcN⟩ : ∃ cN : Int, cN = if l.getD 0 0 = 6 then l.getD 25 0 * 256 + l.getD 26 0 else 0 := ⟨_, rfl⟩
  obtain ⟨o, ho⟩ : ∃ o : Nat, o = if l.getD 0 0 = 6 then 27 else 25 := ⟨_, rfl⟩
  have ho2 : (vals = true ∧ l.getD 0 0 = 6 ∧ o = 27) ∨ (vals = false ∧ l.getD 0 0 = 4 ∧ o = 25) := by
    cases hv : vals with
    | true =>
      have e : l.getD 0 0 = 6 := by rw [hty, hv]; rfl
      rw [ho, if_pos e]; exact Or.inl ⟨rfl, e, rfl⟩
    | false =>
      have e : l.getD 0 0 = 4 := by rw [hty, hv]; rfl
      rw [ho, if_neg (by omega)]; exact Or.inr ⟨rfl, e, rfl⟩
  have b25 := isBL_get hb 25
  have b26 := isBL_get hb 26
  have cr : 0 ≤ cN ∧ cN ≤ 65535 := by
    rw [hcN]
    by_cases c : l.getD 0 0 = 6
    · rw [if_pos c]; omega
    · rw [if_neg c]; omega
  have ndw : ndW l.length (fun i => l.getD i 0) o = true := by
    rcases ho2 with ⟨_, c, e⟩ | ⟨_, c, e⟩
    · rw [e]; exact wl_6 hb hwl c
    · rw [e]; exact wl_4 hb hwl c
  obtain ⟨n, n1, n2, n3, n4⟩ := nd_shape hb ndw
  -- one fewer is asked
  obtain ⟨M1, hM1⟩ : ∃ M1, M1 = sI M (a + 5) 4 ((yl Y t).2.2.2 - 1) := ⟨_, rfl⟩
  have lu1 : LuC M1 (wa pa t + 5) m (yl Y t).1 (yl Y t).2.2.1 (eg t).1 (eg t).2 := by rw [hM1, ha]; exact lu_s4 w2
  have x1 : ExA (AL3 (wa pa t + 5) (eg t).1 (eg t).2) M M1 := by rw [hM1, ha]; exact (ExC_sI (A := AL3 (wa pa t + 5) (eg t).1 (eg t).2) (Or.inl (Or.inl rfl))).exa
  obtain ⟨C1, f1⟩ := CB_lk (A' := 0) (D' := fun _ => 0) (k' := ((yl Y t).1, (yl Y t).2.1, (yl Y t).2.2.1, w32 ((yl Y t).2.2.2 - 1))) hC ht x1 lu1 (by rw [hM1, ha, rI_eq rfl]) (by rw [hM1, ha, rI_ne (by omega), w4, hvals]) (by rw [hM1]; exact ⟨rfl, rfl⟩)
  have hkl := isK_lt hu hk
  have nAL : ∀ q, (q = kx ∨ q = kx + 1) → ¬ q = a + 5 := fun q hq e => by
    have kq : (kd M q).1 = 3 ∨ kd M q = (64, 5) := by
      rcases hq with y | y <;> rw [y]
      · exact Or.inl hk.1
      · exact Or.inr hk.2.2
    rw [e] at kq
    rcases kq with y | y
    · rw [k15] at y; exact absurd y (by decide)
    · have := congrArg Prod.fst y; rw [k15] at this; exact absurd this (by decide)
  have ex1 : Ex (fun z => z = a + 5) M M1 := by rw [hM1]; exact Ex.st (A := fun z => z = a + 5) rfl
  have hk1 : isK M1 kx := hk.ex ex1
  have kc1 : ky (kC M1 kx) = key := by rw [← hkey]; congr 1; funext i; exact ex1.rI (nAL (kx + 1) (Or.inr rfl)) i
  have k11 : (kd M a).1 = 11 := by rw [ha]; exact w1.1
  have l15 : rR M a 1 = ((a + 5 : Nat) : Int) := by rw [ha]; exact w1.2.1.2.1
  -- the nodes
  have tail : ∀ (U : MM), CB U m al N pa own sd ps sn pu rf tm lf b0 eg tk pb as nb mn fa (yw Y, fup (yl Y) t ((yl Y t).1, (yl Y t).2.1, stE key 2 cN (yl Y t).2.2.1, w32 ((yl Y t).2.2.2 - 1)), ys Y, yq Y) h → FK (fun z => z == 6) M U → ∃ M' eg', j_X11_answered_75 (a : Int) ((22 : Nat) : Int) U = (f_X11_goOn (a : Int) M').bind (fun M1 => some M1) ∧ CB M' m al N pa own sd ps sn pu rf tm lf b0 eg' tk pb as nb mn fa (yw Y, fup (yl Y) t (lkA1 key l (yl Y t)), ys Y, yq Y) h ∧ FK (fun z => z == 6 || z == 7) M M' := fun U CU fU => by
    obtain ⟨YU, hYU⟩ : ∃ YU : Ys, YU = (yw Y, fup (yl Y) t ((yl Y t).1, (yl Y t).2.1, stE key 2 cN (yl Y t).2.2.1, w32 ((yl Y t).2.2.2 - 1)), ys Y, yq Y) := ⟨_, rfl⟩
    have eyl : yl YU t = ((yl Y t).1, (yl Y t).2.1, stE key 2 cN (yl Y t).2.2.1, w32 ((yl Y t).2.2.2 - 1)) := by rw [hYU]; exact fup_eq
    rw [← hYU] at CU
    have l23 : 23 < nN M := isP_lt hu hq.1
    have pkU : PkC U 22 l := PkC_fk fU hu hq (by rw [h22.1]; rfl) (by rw [h22.2]; rfl)
    obtain ⟨M', eg', r1, r2, r3⟩ := c_nodesIn (o := o) (n := n) CU ht pkU hb n1 n2 (by omega) (by omega) n4 ⟨by rw [exa_mo fU (by omega)]; exact h22.1, by rw [exa_mo fU (by omega)]; exact h22.2⟩
    obtain ⟨v1, v2, v3, v4, _⟩ := CU.2.1.2.2.1 t ht
    rw [← ha] at v1 v2 v4 r1
    rw [eyl] at v4
    have v4 : rI U (a + 5) 5 = b2i vals := by rw [hvals]; exact v4
    refine ⟨M', eg', ?_, ?_, FK.trans (fU.mono (mo1 rfl)) r3⟩
    · rw [← r1]
      unfold j_X11_answered_75 j_X11_answered_92
      rw [gfr_e v1.1, v1.2.1.2.1, Option.bind_some, gfi_e (by rw [v2.1.1]), v4, Option.bind_some, w32_b2i]
      rcases ho2 with ⟨c1, _, e⟩ | ⟨c1, _, e⟩
      · rw [c1, if_neg (by decide), ck_e pkU.1.1, e, show (25 : Int) + 2 = ((27 : Nat) : Int) from rfl, pk_get1 pkU rfl (by omega), Option.bind_some, show l.getD 27 0 = (n : Int) from e ▸ n1]
      · rw [c1, if_pos (by decide), ck_e pkU.1.1, e, show (25 : Int) + 0 = ((25 : Nat) : Int) from rfl, pk_get1 pkU rfl (by omega), Option.bind_some, show l.getD 25 0 = (n : Int) from e ▸ n1]
    · rw [eyl] at r2
      have ef : fup (yl YU) t ((yl Y t).1, (yl Y t).2.1, (ndL l o).foldl (fun E x => addE (yl Y t).1 E (x.1, x.2, 0, 0)) (stE key 2 cN (yl Y t).2.2.1), w32 ((yl Y t).2.2.2 - 1)) = fup (yl Y) t (lkA1 key l (yl Y t)) := by
        rw [hYU]
        funext z
        show fup (fup (yl Y) t _) t _ z = _
        unfold fup
        by_cases c : z = t
        · rw [if_pos c, if_pos c]
          unfold lkA1
          rw [← ho, ← hcN]
        · rw [if_neg c, if_neg c, if_neg c]
      have r2 : CB M' m al N pa own sd ps sn pu rf tm lf b0 eg' tk pb as nb mn fa (yw YU, fup (yl YU) t ((yl Y t).1, (yl Y t).2.1, (ndL l o).foldl (fun E x => addE (yl Y t).1 E (x.1, x.2, 0, 0)) (stE key 2 cN (yl Y t).2.2.1), w32 ((yl Y t).2.2.2 - 1)), ys YU, yq YU) h := r2
      rw [ef, hYU] at r2
      exact r2
  unfold f_X11_answered
  rw [← ha, if_neg (by decide), gfr_e k11, l15, Option.bind_some, gfi_e k15, show rI M (a + 5) 4 = (yl Y t).2.2.2 from by rw [ha]; exact w3, Option.bind_some, pfi_e k15, Option.bind_some, ← hM1, gfr_e (by rw [ex1.kd]; exact k11), ex1.rR, l15, Option.bind_some, ck_e (by rw [ex1.kd]; exact k15)]
  rw [← ha] at lu1
  rcases c_lfind lu1 hk1 with ⟨j, j1, j2, j3⟩ | ⟨j2, j3⟩
  · rw [j2, Option.bind_some, if_neg (by omega)]
    rw [kc1] at j3
    obtain ⟨d, hd⟩ : ∃ d, d = (eg t).2 j := ⟨_, rfl⟩
    have jA : j < (eg t).1 := by have := lu1.2.2.2.1; omega
    have ned := lu_ned lu1 jA hd
    have hen := (lu1.2.2.2.2.2.1 j jA).2
    have lu3 := c_lset (s := 2) (c := cN) lu1 j1 (by omega) cr
    rw [j3] at lu3
    rw [← hd] at lu3 hen ⊢
    obtain ⟨M3, hM3⟩ : ∃ M3, M3 = sI (sI M1 d 2 2) d 3 cN := ⟨_, rfl⟩
    rw [← hM3] at lu3
    have x3 : ExA (AL3 (wa pa t + 5) (eg t).1 (eg t).2) M1 M3 := by
      rw [hM3, ← ha]
      refine ((ExC_sI (A := AL3 (a + 5) (eg t).1 (eg t).2) ?_).trans (ExC_sI (A := AL3 (a + 5) (eg t).1 (eg t).2) ?_)).exa
      · exact Or.inl (Or.inr (Or.inr ⟨j, jA, Or.inl hd⟩))
      · exact Or.inl (Or.inr (Or.inr ⟨j, jA, Or.inl hd⟩))
    have I3 : ∀ i, rI M3 (a + 5) i = rI M1 (a + 5) i := fun i => by rw [hM3, rI_ne (by omega), rI_ne (by omega)]
    obtain ⟨C3, f3⟩ := CB_lk (A' := 0) (D' := fun _ => 0) (k' := ((yl Y t).1, (yl Y t).2.1, stE key 2 cN (yl Y t).2.2.1, w32 ((yl Y t).2.2.2 - 1))) C1 ht x3 (by rw [← ha]; exact lu3) (by rw [← ha, I3, hM1, rI_eq rfl]) (by rw [← ha, I3, hM1, rI_ne (by omega), ha, w4, hvals]) (by rw [hM3]; exact ⟨rfl, rfl⟩)
    have ef : fup (fup (yl Y) t ((yl Y t).1, (yl Y t).2.1, (yl Y t).2.2.1, w32 ((yl Y t).2.2.2 - 1))) t ((yl Y t).1, (yl Y t).2.1, stE key 2 cN (yl Y t).2.2.1, w32 ((yl Y t).2.2.2 - 1)) = fup (yl Y) t ((yl Y t).1, (yl Y t).2.1, stE key 2 cN (yl Y t).2.2.1, w32 ((yl Y t).2.2.2 - 1)) := by
      funext z
      unfold fup
      by_cases c : z = t
      · rw [if_pos c, if_pos c]
      · rw [if_neg c, if_neg c, if_neg c]
    obtain ⟨M', eg', r1, r2, r3⟩ := tail M3 (by rw [← ef]; exact C3) (FK.trans f1 f3)
    refine ⟨M', eg', ?_, r2, r3⟩
    rw [← r1]
    have k27 : (kd M1 d).1 = 27 := by rw [hen.1]
    have l23 : 23 < nN M := isP_lt hu hq.1
    have pk1 : PkC M1 22 l := PkC_fk f1 hu hq (by rw [h22.1]; rfl) (by rw [h22.2]; rfl)
    have d22 : d ≠ 22 ∧ d ≠ 23 := ⟨fun e => by rw [e] at k27; have := pk1.1.1; rw [k27] at this; exact absurd this (by decide), fun e => by rw [e] at hen; have := pk1.1.2.2; rw [hen.1] at this; exact absurd this (by decide)⟩
    have pk2 : PkC (sI M1 d 2 2) 22 l := pk1.ex (Ex.st (A := fun z => z = d) rfl) (fun e => d22.1 e.symm) (fun e => d22.2 e.symm)
    rw [pfi_e k27, Option.bind_some, gfr_e (by rw [kd_sI, ex1.kd]; exact k11), rR_sI, ex1.rR, l15, Option.bind_some, gfi_e (by rw [kd_sI, ex1.kd]; exact k15), rI_ne (by omega), hM1, rI_ne (by omega), show rI M (a + 5) 5 = b2i vals from by rw [ha]; exact w4, Option.bind_some, w32_b2i, ← hM1]
    unfold j_X11_answered_72
    rcases ho2 with ⟨c1, c2, e⟩ | ⟨c1, c2, e⟩
    · have ec : cN = l.getD 25 0 * 256 + l.getD 26 0 := by rw [hcN, if_pos c2]
      rw [c1, if_neg (by decide), ck_e pk2.1.1, pk_get2 (q := 25) (i := 25) pk2 rfl (by omega), Option.bind_some, pfi_e (by rw [kd_sI]; exact k27), Option.bind_some, hM3, ec]
    · have ec : cN = 0 := by rw [hcN, if_neg (by omega)]
      rw [c1, if_pos (by decide), pfi_e (by rw [kd_sI]; exact k27), Option.bind_some, hM3, ec]
  · rw [j2, Option.bind_some, if_pos rfl]
    rw [kc1] at j3
    exact tail M1 (by rw [(hasE_st (s := 2) (c := cN) j3).1]; exact C1) f1
/-- a lookup of the class gets no answer -/
theorem c_faiLook (hC : CB M m al N pa own sd ps sn pu rf tm lf b0 eg tk pb as nb mn fa Y h) (ht : t < 12 + N) (hk : isK M kx) (hkey : ky (kC M kx) = key) :
    ∃ M', f_X11_failed ((wa pa t : Nat) : Int) 0 (kx : Int) M = (f_X11_goOn ((wa pa t : Nat) : Int) M').bind (fun M1 => some M1) ∧ CB M' m al N pa own sd ps sn pu rf tm lf b0 eg tk pb as nb mn fa (yw Y, fup (yl Y) t ((yl Y t).1, (yl Y t).2.1, flE key (yl Y t).2.2.1, w32 ((yl Y t).2.2.2 - 1)), ys Y, yq Y) h ∧ FK (fun z => z == 6 || z == 7) M M' := by
  obtain ⟨hP, hL, hW, hT⟩ := id hC
  obtain ⟨hu, u1, u2, u3⟩ := id hL
  obtain ⟨w1, w2, w3, w4, w5⟩ := u2 t ht
  obtain ⟨a, ha⟩ : ∃ a, a = wa pa t := ⟨_, rfl⟩
  have k15 : (kd M (a + 5)).1 = 15 := by rw [ha, w2.1.1]
  obtain ⟨M1, hM1⟩ : ∃ M1, M1 = sI M (a + 5) 4 ((yl Y t).2.2.2 - 1) := ⟨_, rfl⟩
  have lu1 : LuC M1 (wa pa t + 5) m (yl Y t).1 (yl Y t).2.2.1 (eg t).1 (eg t).2 := by rw [hM1, ha]; exact lu_s4 w2
  have x1 : ExA (AL3 (wa pa t + 5) (eg t).1 (eg t).2) M M1 := by rw [hM1, ha]; exact (ExC_sI (A := AL3 (wa pa t + 5) (eg t).1 (eg t).2) (Or.inl (Or.inl rfl))).exa
  obtain ⟨C1, f1⟩ := CB_lk (A' := 0) (D' := fun _ => 0) (k' := ((yl Y t).1, (yl Y t).2.1, (yl Y t).2.2.1, w32 ((yl Y t).2.2.2 - 1))) hC ht x1 lu1 (by rw [hM1, ha, rI_eq rfl]) (by rw [hM1, ha, rI_ne (by omega), w4]) (by rw [hM1]; exact ⟨rfl, rfl⟩)
  have nAL : ¬ kx + 1 = a + 5 := fun e => by
    have := hk.2.2
    rw [e] at this
    rw [this] at k15; exact absurd k15 (by decide)
  have ex1 : Ex (fun z => z = a + 5) M M1 := by rw [hM1]; exact Ex.st (A := fun z => z = a + 5) rfl
  have hk1 : isK M1 kx := hk.ex ex1
  have kc1 : ky (kC M1 kx) = key := by rw [← hkey]; congr 1; funext i; exact ex1.rI nAL i
  have k11 : (kd M a).1 = 11 := by rw [ha]; exact w1.1
  have l15 : rR M a 1 = ((a + 5 : Nat) : Int) := by rw [ha]; exact w1.2.1.2.1
  unfold f_X11_failed
  rw [← ha, if_neg (by decide), gfr_e k11, l15, Option.bind_some, gfi_e k15, show rI M (a + 5) 4 = (yl Y t).2.2.2 from by rw [ha]; exact w3, Option.bind_some, pfi_e k15, Option.bind_some, ← hM1, gfr_e (by rw [ex1.kd]; exact k11), ex1.rR, l15, Option.bind_some, ck_e (by rw [ex1.kd]; exact k15)]
  rw [← ha] at lu1
  unfold j_X11_failed_45
  rcases c_lfind lu1 hk1 with ⟨j, j1, j2, j3⟩ | ⟨j2, j3⟩
  · rw [j2, Option.bind_some, if_neg (by omega)]
    rw [kc1] at j3
    obtain ⟨d, hd⟩ : ∃ d, d = (eg t).2 j := ⟨_, rfl⟩
    have jA : j < (eg t).1 := by have := lu1.2.2.2.1; omega
    have ned := lu_ned lu1 jA hd
    have hen := (lu1.2.2.2.2.2.1 j jA).2
    have lu3 := c_lset1 (s := 3) lu1 j1 (by omega)
    have xm : (yl Y t).2.2.1.getD j ent0 ∈ (yl Y t).2.2.1 := getD_mem j1
    rw [← fl_st lu1.2.2.2.2.2.2.2.2.1 xm, j3] at lu3
    rw [← hd] at lu3 hen ⊢
    obtain ⟨M3, hM3⟩ : ∃ M3, M3 = sI M1 d 2 3 := ⟨_, rfl⟩
    rw [← hM3] at lu3
    have x3 : ExA (AL3 (wa pa t + 5) (eg t).1 (eg t).2) M1 M3 := by
      rw [hM3, ← ha]
      exact (ExC_sI (A := AL3 (a + 5) (eg t).1 (eg t).2) (Or.inl (Or.inr (Or.inr ⟨j, jA, Or.inl hd⟩)))).exa
    have I3 : ∀ i, rI M3 (a + 5) i = rI M1 (a + 5) i := fun i => by rw [hM3, rI_ne (by omega)]
    obtain ⟨C3, f3⟩ := CB_lk (A' := 0) (D' := fun _ => 0) (k' := ((yl Y t).1, (yl Y t).2.1, flE key (yl Y t).2.2.1, w32 ((yl Y t).2.2.2 - 1))) C1 ht x3 (by rw [← ha]; exact lu3) (by rw [← ha, I3, hM1, rI_eq rfl]) (by rw [← ha, I3, hM1, rI_ne (by omega), ha, w4]) (by rw [hM3]; exact ⟨rfl, rfl⟩)
    have ef : fup (fup (yl Y) t ((yl Y t).1, (yl Y t).2.1, (yl Y t).2.2.1, w32 ((yl Y t).2.2.2 - 1))) t ((yl Y t).1, (yl Y t).2.1, flE key (yl Y t).2.2.1, w32 ((yl Y t).2.2.2 - 1)) = fup (yl Y) t ((yl Y t).1, (yl Y t).2.1, flE key (yl Y t).2.2.1, w32 ((yl Y t).2.2.2 - 1)) := by
      funext z
      unfold fup
      by_cases c : z = t
      · rw [if_pos c, if_pos c]
      · rw [if_neg c, if_neg c, if_neg c]
    have C3 : CB M3 m al N pa own sd ps sn pu rf tm lf b0 eg tk pb as nb mn fa (yw Y, fup (yl Y) t ((yl Y t).1, (yl Y t).2.1, flE key (yl Y t).2.2.1, w32 ((yl Y t).2.2.2 - 1)), ys Y, yq Y) h := by rw [← ef]; exact C3
    refine ⟨M3, ?_, C3, FK.trans (f1.mono (mo1 rfl)) (f3.mono (mo1 rfl))⟩
    rw [pfi_e (by rw [hen.1]), Option.bind_some, ← hM3, ck_e (by rw [hM3, kd_sI, ex1.kd]; exact k11)]
  · rw [j2, Option.bind_some, if_pos rfl]
    rw [kc1] at j3
    refine ⟨M1, by rw [ck_e (by rw [ex1.kd]; exact k11)], ?_, f1.mono (mo1 rfl)⟩
    rw [(hasE_st (s := 2) (c := 0) j3).2]; exact C1
end CANSLK2
