/-! what is told of a store -/
def BA (q : Nat) : Prop := (25 ≤ q ∧ q ≤ 27) ∨ (33 ≤ q ∧ q ≤ 39)
def rdC (l : List Int) (p n : Nat) : List (Int × Int) := (List.range n).map (fun i => (l.getD (p + 2 * i) 0, l.getD (p + 2 * i + 1) 0))
theorem rdC_get {l : List Int} {p n i : Nat} (h : i < n) : (rdC l p n).getD i (0, 0) = (l.getD (p + 2 * i) 0, l.getD (p + 2 * i + 1) 0) := by
  unfold rdC
  rw [gd_get (by simp; exact h), List.getElem_map, List.getElem_range]
theorem rdC_len {l : List Int} {p n : Nat} : (rdC l p n).length = n := by simp [rdC]
theorem be3_flat (tl : List It) : (tl.flatMap be3).length = 3 * tl.length := by
  induction tl with
  | nil => rfl
  | cons x tl ih => rw [List.flatMap_cons, List.length_append, ih, List.length_cons]; show 3 + _ = _; omega
theorem page_more {skip : Nat} {ps r : List Post} (h : moreS skip ps = true) : pageS skip (ps ++ r) = pageS skip ps ∧ moreS skip (ps ++ r) = true := by
  unfold moreS at h ⊢
  unfold pageS
  simp only [decide_eq_true_eq, List.length_drop] at h ⊢
  rw [List.drop_append_of_le_length (by omega), List.take_append_of_le_length (by rw [List.length_drop]; omega), List.length_append]
  exact ⟨rfl, by omega⟩
section CANS2
variable {M M1 : MM} {a p m n kx x c k s A h skip : Nat} {l bs ql : List Int} {D : Nat → Nat} {S : List Post} {Z : Nat → Prop}
theorem isPo.ex (hx : Ex Z M M1) (hc : isPo M c) : isPo M1 c := ⟨by rw [hx.kd]; exact hc.1, by rw [hx.rR]; exact hc.2.1, by rw [hx.kd]; exact hc.2.2.1, hc.2.2.2.ex hx⟩
theorem StC.ex (hx : Ex Z M M1) (h1 : ¬ Z s) (hd : ∀ i, i < A → ¬ Z (D i) ∧ ¬ Z (D i + 2)) (hs : StC M s A D S) : StC M1 s A D S := by
  obtain ⟨⟨b1, b2, b3, b4, b5, b6⟩, a2, a3, a4, a5, a6, a7, a8, a9⟩ := hs
  refine ⟨⟨by rw [hx.kd]; exact b1, by rw [hx.rR]; exact b2, by rw [hx.kd]; exact b3, by rw [hx.rR]; exact b4, by rw [hx.kd]; exact b5, b6.ex hx⟩, by rw [hx.rI h1]; exact a2, a3, a4, fun i hi => ⟨by rw [hx.rR]; exact (a5 i hi).1, (a5 i hi).2.ex hx⟩, a6, fun i hi hj => by rw [hx.rR]; exact a7 i hi hj, a8, fun i hi => ?_⟩
  rw [← a9 i hi]
  have := hd i (by omega)
  unfold poc
  have e : kC M1 (D i + 1) = kC M (D i + 1) := by funext j; exact hx.rI this.2 j
  rw [e, hx.rI this.1, hx.rI this.1, hx.rI this.1, hx.rI this.1]
theorem pk_setb {j : Nat} {v : Int} (hp : PkC M x l) (hj : j < l.length) (hv : 0 ≤ v ∧ v < 256) : PkC (sI M (x + 1) j (sx8 v)) x (l.set j v) := by
  obtain ⟨a1, a2, a3, a4⟩ := hp
  refine ⟨a1, by rw [rI_ne (by omega), List.length_set]; exact a2, by rw [List.length_set]; exact a3, fun i hi => ?_⟩
  rw [List.length_set] at hi
  rw [rU_sI, List.getD_eq_getElem?_getD, List.getElem?_set]
  by_cases c : i = j
  · rw [if_pos ⟨rfl, c⟩, if_pos c.symm, if_pos (by omega), sx8_emod]
    show v % 256 = v
    omega
  · rw [if_neg (fun z => c z.2), if_neg (Ne.symm c), ← List.getD_eq_getElem?_getD]
    exact a4 i hi
theorem c_putPosting (hp : PkC M x l) (hc : isPo M c) (hx : c ≠ x ∧ c ≠ x + 1) (hk : okP (poc M c)) (hl : l.length + 3 ≤ 460) : ∃ M', f_X17_putPosting (x : Int) (c : Int) M = some M' ∧ PkC M' x (l ++ be3 (itm (poc M c))) ∧ Ex (fun q => q = x ∨ q = x + 1) M M' := by
  obtain ⟨-, k1, k2, k3, -⟩ := hk
  have k1 : 0 ≤ rI M c 1 ∧ rI M c 1 < 32 := k1
  have k2 : 0 ≤ rI M c 2 ∧ rI M c 2 < 16 := k2
  have k3 : 1 ≤ rI M c 3 ∧ rI M c 3 ≤ 15 := k3
  obtain ⟨M1, a1, a2, a3⟩ := e_X4_put (v := rI M c 1) (n := 1) hp (by decide) (by omega)
  rw [be1 (by omega)] at a2
  obtain ⟨M2, b1, b2, b3⟩ := e_X4_put (v := rI M c 2) (n := 1) a2 (by decide) (by rw [List.length_append]; simp; omega)
  rw [be1 (by omega)] at b2
  obtain ⟨M3, c1, c2, c3⟩ := e_X4_put (v := rI M c 3) (n := 1) b2 (by decide) (by rw [List.length_append, List.length_append]; simp; omega)
  rw [be1 (by omega)] at c2
  have x2 := a3.trans b3
  refine ⟨M3, ?_, ?_, x2.trans c3⟩
  · unfold f_X17_putPosting
    rw [gfi_e (by rw [hc.1]), Option.bind_some, ck_e hp.1.1, show f_X4_put (x : Int) (rI M c 1) 1 M = some M1 from a1, Option.bind_some, gfi_e (by rw [a3.kd, hc.1]), Option.bind_some, a3.rI (by omega), ck_e a2.1.1, show f_X4_put (x : Int) (rI M c 2) 1 M1 = some M2 from b1, Option.bind_some, gfi_e (by rw [x2.kd, hc.1]), Option.bind_some, x2.rI (by omega), ck_e b2.1.1, show f_X4_put (x : Int) (rI M c 3) 1 M2 = some M3 from c1, Option.bind_some]
  · have e : l ++ be3 (itm (poc M c)) = l ++ [rI M c 1] ++ [rI M c 2] ++ [rI M c 3] := by simp [be3, itm, poc]
    rw [e]; exact c2
theorem c_putBits (hb : BdS M m) (hpe : PeS M a p) (ha : 276 ≤ a) (hS : StC M (a + 3) A D S) (hD : ∀ i, i < A → 276 ≤ D i) (hkx : isK M kx) (hset : f_X7_setting ((19 : Nat) : Int) 9 M = some (h : Int)) (hn : (kd M 19).1 = 7) (hh : 1 ≤ h ∧ h ≤ 8) (hp : PkC M 33 l) (hl : l.length = 25) :
    ∃ M', f_X17_putBits (a : Int) ((33 : Nat) : Int) (kx : Int) M = some M' ∧ PkC M' 33 (l ++ be (((choS (ky (kC M kx)) S).length : Nat) : Int) 2 ++ ((h : Int) :: be (((mkF h (choS (ky (kC M kx)) S)).length : Nat) : Int) 2) ++ mkF h (choS (ky (kC M kx)) S)) ∧ Ex BA M M' := by
  obtain ⟨n0, s1, s2', s3, s4⟩ := c_count hS hkx
  generalize hcs : choS (ky (kC M kx)) S = cs at *
  have lS := hS.2.2.2.2.2.2.2.1.1
  obtain ⟨M1, b1, b2, b3⟩ := c_fbegin (n := cs.length) (h := h) hb.2.2.2.2.2.2.1.2.2.1 (by omega) hh.2
  have x1 : Ex BA M M1 := b3.mono (fun q z => by unfold BA; omega)
  have nB : ∀ z, 276 ≤ z → ¬ BA z := fun z hz q => by unfold BA at q; omega
  have okc : ∀ j, j < cs.length → cs.getD j post0 = S.getD (n0 + j) post0 := fun j hj => by
    rw [s4, List.getD_eq_getElem?_getD, List.getElem?_take_of_lt hj, List.getElem?_drop, ← List.getD_eq_getElem?_getD]
  obtain ⟨⟨z, U⟩, n2, hn2, ⟨rfl, g1, g2⟩, q2⟩ := lp_inv (b := fun t : Int × MM => b_X17_putBits_46 (a : Int) ((33 : Nat) : Int) ((cs.length : Nat) : Int) (n0 : Int) t.1 t.2) (fun j t => t.1 = ((n0 + j : Nat) : Int) ∧ FltC t.2 35 h (mkFk h cs j) ∧ Ex (fun q => BA q ∧ q ≠ 33 ∧ q ≠ 34) M1 t.2) cs.length
    (by
      rintro j ⟨z, U⟩ hj ⟨rfl, g1, g2⟩
      dsimp only at g1 g2 ⊢
      have gx : Ex BA M U := x1.trans (g2.mono (fun q z => z.1))
      have bU := hb.ex gx (by unfold BA; omega)
      have peU := hpe.ex gx (nB _ (by omega))
      have stU := hS.ex gx (nB _ (by omega)) (fun i hi => ⟨nB _ (hD i hi), nB _ (by have := hD i hi; omega)⟩)
      obtain ⟨c1, c2, c3, c4, c5, c6, c7, c8, c9⟩ := id stU
      have hc := (c5 (n0 + j) (by omega)).2
      have cj := c9 (n0 + j) (by omega)
      have hok := c8.2.2 _ (getD_mem (d := post0) (show n0 + j < S.length by omega))
      have mk := mkFk_ok (h := h) (ps := cs) (by omega) hh.2 j (by omega)
      have fp := fltL_pos (n := cs.length) (h := h) (by omega) (by omega)
      have e1 : rI U (D (n0 + j)) 1 = (cs.getD j post0).2.1 := by rw [okc j hj, ← cj]; rfl
      have e2 : rI U (D (n0 + j)) 2 = (cs.getD j post0).2.2.1 := by rw [okc j hj, ← cj]; rfl
      obtain ⟨-, k1, k2, -⟩ := hok
      rw [← okc j hj] at k1 k2
      obtain ⟨U', d1, d2, d3⟩ := c_fadd (o := (cs.getD j post0).2.1) (d := (cs.getD j post0).2.2.1) g1 bU.2.2.2.2.2.2.2.2.1 hh.2 (by omega) (by omega) (by omega)
      rw [mk.2, ← mkFk_succ hj] at d2
      refine ⟨(((n0 + (j + 1) : Nat) : Int), U'), ?_, rfl, d2, g2.trans (d3.mono (fun q z => by unfold BA; omega))⟩
      unfold b_X17_putBits_46
      rw [cadd, w32_nn (by omega), w32_nn (by omega), if_pos (by omega), gfr_e (by rw [peU.1]), peU.2.2.1.1, Option.bind_some, gfr_e (by rw [bU.1]), bU.2.2.1.2.2.2.2.2.2.2.1, Option.bind_some, gfr_e (by rw [peU.1]), peU.2.2.1.2.2.2.1, Option.bind_some, gfr_e c1.1, c1.2.1, Option.bind_some, lar_n c1.2.2.1 (by decide) (by omega) (by decide), Option.bind_some, (c5 (n0 + j) (by omega)).1, gfi_e (by rw [hc.1]), Option.bind_some, e1, Option.bind_some, gfr_e c1.1, c1.2.1, Option.bind_some, lar_n c1.2.2.1 (by decide) (by omega) (by decide), Option.bind_some, (c5 (n0 + j) (by omega)).1, gfi_e (by rw [hc.1]), Option.bind_some, e2, ck_e g1.1.1, d1, Option.bind_some, cadd1]
      rfl) FU 0 ((n0 : Int), M1) (by omega) (by unfold FU; omega) ⟨rfl, b2, Ex.refl⟩
  dsimp only at g1 g2
  have emk : mkFk h cs cs.length = mkF h cs := by unfold mkFk mkF; rw [List.take_length]
  rw [emk] at g1
  have gx : Ex BA M U := x1.trans (g2.mono (fun q z => z.1))
  have bU := hb.ex gx (by unfold BA; omega)
  have peU := hpe.ex gx (nB _ (by omega))
  have pU : PkC U 33 l := (hp.ex b3 (by decide) (by decide)).ex g2 (fun z => z.2.1 rfl) (fun z => z.2.2 rfl)
  have lm := g1.2.2.2.1.1
  obtain ⟨U1, d1, d2, d3⟩ := e_X4_put (v := ((cs.length : Nat) : Int)) (n := 2) pU (by decide) (by omega)
  have fU1 : FltC U1 35 h (mkF h cs) := g1.ex d3 (by decide) (by decide)
  have x1' : Ex BA U U1 := d3.mono (fun q z => by unfold BA; omega)
  have bU1 := bU.ex x1' (by unfold BA; omega)
  have peU1 := peU.ex x1' (nB _ (by omega))
  obtain ⟨U2, e1, e2, e3⟩ := c_fwrite fU1 d2 hh.2 (by rw [List.length_append, be_len]; omega)
  refine ⟨U2, ?_, e2, gx.trans (x1'.trans (e3.mono (fun q z => by unfold BA; omega)))⟩
  unfold f_X17_putBits l_X17_putBits_46
  rw [gfr_e (by rw [hpe.1]), hpe.2.2.1.2.2.2.1, Option.bind_some, ck_e hS.1.1, s2', Option.bind_some, Option.bind_some, ck_e hS.1.1, s1, Option.bind_some, gfr_e (by rw [hpe.1]), hpe.2.2.1.1, Option.bind_some, gfr_e (by rw [hb.1]), hb.2.2.1.2.2.2.2.2.2.2.1, Option.bind_some, Option.bind_some, gfr_e (by rw [hb.1]), hb.2.2.1.1, Option.bind_some, ck_e hn, hset, Option.bind_some, ck_e hb.2.2.2.2.2.2.1.2.2.1.1, b1, Option.bind_some]
  refine q2.trans ?_
  refine lpN_end (b := fun t : Int × MM => b_X17_putBits_46 (a : Int) ((33 : Nat) : Int) ((cs.length : Nat) : Int) (n0 : Int) t.1 t.2) hn2 ?_
  dsimp only
  unfold b_X17_putBits_46 j_X17_putBits_97
  rw [cadd, if_neg (Int.lt_irrefl _), ck_e pU.1.1, show f_X4_put ((33 : Nat) : Int) ((cs.length : Nat) : Int) 2 U = some U1 from d1, Option.bind_some, gfr_e (by rw [peU1.1]), peU1.2.2.1.1, Option.bind_some, gfr_e (by rw [bU1.1]), bU1.2.2.1.2.2.2.2.2.2.2.1, Option.bind_some, ck_e fU1.1.1, e1, Option.bind_some]
end CANS2
