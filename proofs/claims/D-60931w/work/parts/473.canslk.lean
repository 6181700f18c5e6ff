/-! a lookup of the class is answered -/
section CANSLK
variable {Z : Nat → Prop} {M M1 M2 : MM} {m al N p t nb n kx o : Nat} {pa tk : Nat → Nat} {own : Nat → Ky} {sd ps sn pu rf : Nat → Int} {tm how : Int} {lf : Nat → Nat} {b0 : Nat × Nat} {h : Gh} {eg : EG} {pb as : Nat → Option Nat} {mn sto : Nat → Int} {fa : Nat → Nat} {Y : Ys} {l : List Int} {key : Ky}
/-- ints of the board's cells -/
theorem CB_7 (hC : CB M m al N pa own sd ps sn pu rf tm lf b0 eg tk pb as nb mn fa Y h) (hx : Ex Z M M1) (hz : ¬ Z 18) (hm : ∀ z, z < nN M → Z z → mo M z = 7) : CB M1 m al N pa own sd ps sn pu rf tm lf b0 eg tk pb as nb mn fa Y h ∧ FK (fun z => z == 7) M M1 := by
  obtain ⟨hP, hL, hW, hT⟩ := hC
  obtain ⟨P1, f1⟩ := cp_board hP hx hz hm
  have f1 : FK (fun z => z == 7) M M1 := f1 _ rfl
  exact ⟨⟨P1, LksC_fk f1 (by decide) hL, Wks_fk hL f1 (by decide) hW, Tks_fk hL.1 f1 (by decide) hT⟩, f1⟩
theorem BdS_44 (h : BdS M m) : kd M 44 = (3, 11) ∧ isK M 44 ∧ mo M 45 = 7 := by
  have k := h.2.2.2.2.2.2.2.1
  have i := h.2.2.2.2.2.2.1
  have k44 : kd M 44 = (3, 11) := k.2.2.2.2.2.1
  exact ⟨k44, i.2.2.2.2.2, mo_kw (q := 44) i.2.2.2.2.2.2.2 (Or.inl rfl) k44 (by decide) (by decide)⟩
/-- a lookup of a work changes -/
theorem CB_lk {Mn : MM} {A' : Nat} {D' : Nat → Nat} {k' : LkA} (hC : CB M m al N pa own sd ps sn pu rf tm lf b0 eg tk pb as nb mn fa Y h) (ht : t < 12 + N) (hx : ExA (AL3 (wa pa t + 5) (eg t).1 (eg t).2) M Mn) (hn : LuC Mn (wa pa t + 5) m k'.1 k'.2.2.1 (eg t).1 (eg t).2) (h4 : rI Mn (wa pa t + 5) 4 = k'.2.2.2) (h5 : rI Mn (wa pa t + 5) 5 = b2i k'.2.1) (hnn : nN Mn = nN M ∧ nU Mn = nU M) : CB Mn m al N pa own sd ps sn pu rf tm lf b0 eg tk pb as nb mn fa (yw Y, fup (yl Y) t k', ys Y, yq Y) h ∧ FK (fun z => z == 6) M Mn := by
  obtain ⟨v1, v2, _⟩ := hC.2.1.2.2.1 t ht
  have f5 : FK (fun z => z == 6) M Mn := FK_exa hx (fun z _ hz => by rw [al3_mo v2 hz]; rfl)
  have L5 := lks_step (k' := k') hC.2.1 ht hx hn h4 h5 DW.refl
  rw [show fup eg t ((eg t).1, (eg t).2) = eg from fup_self] at L5
  exact ⟨CB_w hC (cp_b (cp_w6 (d1 := 0) (d2 := 0) hC.1 f5 (by decide) (BoC_fk f5 hC.2.1.1 (by decide) hC.1.1) (by omega) (by omega)) (Nat.le_refl _) (Nat.le_refl _)) L5 f5 (by decide), f5⟩
/-- nodes that came are added -/
theorem c_nodesIn (hC : CB M m al N pa own sd ps sn pu rf tm lf b0 eg tk pb as nb mn fa Y h) (ht : t < 12 + N) (hq : PkC M 22 l) (hb : isBL l) (hn : l.getD o 0 = (n : Int)) (hn2 : n ≤ 20) (ho : o ≤ 27) (hl : o + 1 + 21 * n ≤ l.length) (ha : ∀ k, k < n → l.getD (o + 1 + 21 * k + 20) 0 < 32) (h22 : mo M 22 = 9 ∧ mo M 23 = 9) :
    ∃ M' eg', l_X11_answered_107 ((wa pa t : Nat) : Int) ((22 : Nat) : Int) (o : Int) (n : Int) 0 M = (f_X11_goOn ((wa pa t : Nat) : Int) M').bind (fun M1 => some M1) ∧ CB M' m al N pa own sd ps sn pu rf tm lf b0 eg' tk pb as nb mn fa (yw Y, fup (yl Y) t ((yl Y t).1, (yl Y t).2.1, (ndL l o).foldl (fun E x => addE (yl Y t).1 E (x.1, x.2, 0, 0)) (yl Y t).2.2.1, (yl Y t).2.2.2), ys Y, yq Y) h ∧ FK (fun z => z == 6 || z == 7) M M' := by
  rw [ndL_s hn]
  obtain ⟨g, hg⟩ : ∃ g : List Ent → Ky × Int → List Ent, g = fun E x => addE (yl Y t).1 E (x.1, x.2, 0, 0) := ⟨_, rfl⟩
  obtain ⟨nd, hnd⟩ : ∃ nd : Nat → Ky × Int, nd = fun i => (kyP l (o + 1 + 21 * i), l.getD (o + 21 + 21 * i) 0) := ⟨_, rfl⟩
  rw [← hg, ← hnd]
  obtain ⟨a, haa⟩ : ∃ a, a = wa pa t := ⟨_, rfl⟩
  have hu := hC.2.1.1
  have l23 : 23 < nN M := isP_lt hu hq.1
  have loop : ∀ (d j fu : Nat) (U : MM) (egU : EG), d + j = n → d < fu → CB U m al N pa own sd ps sn pu rf tm lf b0 egU tk pb as nb mn fa (yw Y, fup (yl Y) t ((yl Y t).1, (yl Y t).2.1, ((List.range j).map nd).foldl g (yl Y t).2.2.1, (yl Y t).2.2.2), ys Y, yq Y) h → FK (fun z => z == 6 || z == 7) M U → ∃ M' eg', lpN (fun s : Int × MM => b_X11_answered_107 (a : Int) ((22 : Nat) : Int) (o : Int) (n : Int) s.1 s.2) fu ((j : Int), U) = (f_X11_goOn (a : Int) M').bind (fun M1 => some M1) ∧ CB M' m al N pa own sd ps sn pu rf tm lf b0 eg' tk pb as nb mn fa (yw Y, fup (yl Y) t ((yl Y t).1, (yl Y t).2.1, ((List.range n).map nd).foldl g (yl Y t).2.2.1, (yl Y t).2.2.2), ys Y, yq Y) h ∧ FK (fun z => z == 6 || z == 7) M M' := by
    intro d
    induction d with
    | zero =>
      intro j fu U egU hj hf hU hfk
      have : j = n := by omega
      subst this
      refine ⟨U, egU, lpN_end (by omega) ?_, hU, hfk⟩
      obtain ⟨w1, _⟩ := hU.2.1.2.2.1 t ht
      show b_X11_answered_107 (a : Int) ((22 : Nat) : Int) (o : Int) (j : Int) (j : Int) U = _
      unfold b_X11_answered_107
      rw [if_neg (by omega), haa, ck_e w1.1]
    | succ d ih =>
      intro j fu U egU hj hf hU hfk
      obtain ⟨fu', rfl⟩ : ∃ f, fu = f + 1 := ⟨fu - 1, by omega⟩
      obtain ⟨w1, w2, _⟩ := hU.2.1.2.2.1 t ht
      have huU := hU.2.1.1
      have pkU : PkC U 22 l := PkC_fk hfk hu hq (by rw [h22.1]; rfl) (by rw [h22.2]; rfl)
      obtain ⟨k44, i44, m45⟩ := BdS_44 hU.1.1.1
      have k6 : (kd U 18).1 = 6 := by rw [hU.1.1.1.1]
      have r13 : rR U 18 13 = ((44 : Nat) : Int) := hU.1.1.1.2.2.1.2.2.2.2.2.2.2.2.2.2.1
      obtain ⟨U1, q1, q2, q3⟩ := e_X4_getKey (p := o + 1 + 21 * j) pkU.1 i44 (by have := pkU.2.2.1; omega)
      have key1 : ky (kC U1 44) = kyP l (o + 1 + 21 * j) := by
        rw [← pk_key pkU (by omega)]
        exact ky_eq.mpr ⟨q2 0 (by omega), q2 1 (by omega), q2 2 (by omega), q2 3 (by omega), q2 4 (by omega)⟩
      obtain ⟨C1, f1⟩ := CB_7 hU q3 (by omega) (fun z _ hz => by rw [hz]; exact m45)
      have pk1 : PkC U1 22 l := pkU.ex q3 (by omega) (by omega)
      have had := ha j (by omega)
      have hab := isBL_get hb (o + 21 + 21 * j)
      have ead : f_X4_get ((22 : Nat) : Int) ((o : Int) + 21 + (21 * (j : Int))) 1 U1 = some (l.getD (o + 21 + 21 * j) 0) := pk_get1 pk1 (by omega) (by omega)
      obtain ⟨U2, eg2, a1, a2, a3, a4, a5⟩ := lc_add (t := t) (kx := 44) (ad := l.getD (o + 21 + 21 * j) 0) (stt := 0) C1.1 C1.2.1 ht (i44.ex q3) (by rw [q3.kd, k44]; decide) ⟨hab.1, by rw [show o + 21 + 21 * j = o + 1 + 21 * j + 20 from by omega]; exact had⟩ (by omega)
      have f2 := a4 (fun z => z == 6) rfl
      have C2 := CB_w C1 a2 a3 f2 (by decide)
      have ef : fup (fup (yl Y) t ((yl Y t).1, (yl Y t).2.1, ((List.range j).map nd).foldl g (yl Y t).2.2.1, (yl Y t).2.2.2)) t ((fup (yl Y) t ((yl Y t).1, (yl Y t).2.1, ((List.range j).map nd).foldl g (yl Y t).2.2.1, (yl Y t).2.2.2) t).1, (fup (yl Y) t ((yl Y t).1, (yl Y t).2.1, ((List.range j).map nd).foldl g (yl Y t).2.2.1, (yl Y t).2.2.2) t).2.1, addE (fup (yl Y) t ((yl Y t).1, (yl Y t).2.1, ((List.range j).map nd).foldl g (yl Y t).2.2.1, (yl Y t).2.2.2) t).1 (fup (yl Y) t ((yl Y t).1, (yl Y t).2.1, ((List.range j).map nd).foldl g (yl Y t).2.2.1, (yl Y t).2.2.2) t).2.2.1 (ky (kC U1 44), l.getD (o + 21 + 21 * j) 0, 0, 0), (fup (yl Y) t ((yl Y t).1, (yl Y t).2.1, ((List.range j).map nd).foldl g (yl Y t).2.2.1, (yl Y t).2.2.2) t).2.2.2) = fup (yl Y) t ((yl Y t).1, (yl Y t).2.1, ((List.range (j + 1)).map nd).foldl g (yl Y t).2.2.1, (yl Y t).2.2.2) := by
        rw [fup_eq, List.range_succ, List.map_append, List.foldl_append, key1]
        funext z
        unfold fup
        by_cases c : z = t
        · rw [if_pos c, if_pos c, hg, hnd]; rfl
        · rw [if_neg c, if_neg c, if_neg c]
      have C3 : CB U2 m al N pa own sd ps sn pu rf tm lf b0 eg2 tk pb as nb mn fa (yw Y, fup (yl Y) t ((yl Y t).1, (yl Y t).2.1, ((List.range (j + 1)).map nd).foldl g (yl Y t).2.2.1, (yl Y t).2.2.2), ys Y, yq Y) h := by rw [← ef]; exact C2
      obtain ⟨M', eg', r1, r2, r3⟩ := ih (j + 1) fu' U2 eg2 (by omega) (by omega) C3 (FK.trans hfk (FK.trans (f1.mono (mo1 rfl)) (f2.mono (mo1 rfl))))
      refine ⟨M', eg', ?_, r2, r3⟩
      rw [lpN_cnt (b := fun s : Int × MM => b_X11_answered_107 (a : Int) ((22 : Nat) : Int) (o : Int) (n : Int) s.1 s.2) (s := ((j : Int), U)) (s' := (((j + 1 : Nat) : Int), U2))]
      · exact r1
      · show b_X11_answered_107 (a : Int) ((22 : Nat) : Int) (o : Int) (n : Int) (j : Int) U = _
        unfold b_X11_answered_107
        have q1 : f_X4_getKey ((22 : Nat) : Int) (((o : Int) + 1) + (21 * (j : Int))) ((44 : Nat) : Int) U = some U1 := by rw [show ((o : Int) + 1) + (21 * (j : Int)) = ((o + 1 + 21 * j : Nat) : Int) from by omega]; exact q1
        have k15 : (kd U1 (a + 5)).1 = 15 := by rw [q3.kd, haa, w2.1.1]
        rw [← haa] at a1
        have a1 : f_X15_add ((a + 5 : Nat) : Int) ((44 : Nat) : Int) (l.getD (o + 21 + 21 * j) 0) 0 U1 = some U2 := a1
        rw [← haa] at w1
        rw [w32_nn (by omega), w32_nn (by omega), if_pos (by omega), gfr_e w1.1, w1.2.1.1, Option.bind_some, gfr_e k6, r13, Option.bind_some, ck_e pkU.1.1, q1, Option.bind_some, gfr_e (by rw [q3.kd]; exact w1.1), q3.rR, w1.2.1.2.1, Option.bind_some, gfr_e (by rw [q3.kd]; exact w1.1), q3.rR, w1.2.1.1, Option.bind_some, gfr_e (by rw [q3.kd]; exact k6), q3.rR, r13, Option.bind_some, ck_e (by rw [q3.kd]; exact pkU.1.1), ead, Option.bind_some, ck_e k15, a1, Option.bind_some]
        rfl
  obtain ⟨M', eg', r1, r2, r3⟩ := loop n 0 FU M eg (by omega) (by unfold FU; omega) (by
    rw [show (List.range 0).map nd = [] from rfl]
    show CB M m al N pa own sd ps sn pu rf tm lf b0 eg tk pb as nb mn fa (yw Y, fup (yl Y) t ((yl Y t).1, (yl Y t).2.1, (yl Y t).2.2.1, (yl Y t).2.2.2), ys Y, yq Y) h
    have : fup (yl Y) t ((yl Y t).1, (yl Y t).2.1, (yl Y t).2.2.1, (yl Y t).2.2.2) = yl Y := by
      funext z
      unfold fup
      by_cases c : z = t
      · rw [if_pos c, c]
      · rw [if_neg c]
    rw [this]; exact hC) .refl
  rw [haa] at r1
  exact ⟨M', eg', r1, r2, r3⟩
end CANSLK
