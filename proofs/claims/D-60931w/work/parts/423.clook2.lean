/-! a work looks, asks the next one -/
def eb (b0 : Nat × Nat) (eg : EG) (T : Nat) : Nat × Nat := (b0.1 + 3 * sumN (fun t => (eg t).1) T, b0.2 + 10 * sumN (fun t => (eg t).1) T)
theorem sum_eg {eg : EG} {t T A' : Nat} {D' : Nat → Nat} (ht : t < T) : sumN (fun q => (fup eg t (A', D') q).1) T + (eg t).1 = sumN (fun q => (eg q).1) T + A' := by
  have := sumN_fup (f := fun q => (eg q).1) (p := t) (v := A') T ht
  rw [← this]
  congr 1
  exact sumN_congr T (fun i _ => by unfold fup; split <;> rfl)
section CLOOK2
variable {S : Nat → Bool} {M M1 : MM} {m al N p t kx a u T : Nat} {pa : Nat → Nat} {own : Nat → Ky} {sd ps sn pu rf : Nat → Int} {tm : Int} {lf : Nat → Nat} {b b0 : Nat × Nat} {w : Wd} {h : Gh} {lk : Nat → LkA} {eg : EG} {sk : Bool}
/-- works change: nothing to the peers' part but more cells -/
theorem cp_w6 {d1 d2 : Nat} (hc : CPs M m al N pa own sd ps sn pu rf tm lf b w h) (f : FK S M M1) (hs : S 1 = false ∧ S 2 = false ∧ S 3 = false ∧ S 5 = false ∧ S 9 = false ∧ S 10 = false) (hb : BoC M1 m al N pa) (hn : nN M1 ≤ nN M + d1) (hU : nU M1 ≤ nU M + d2) : CPs M1 m al N pa own sd ps sn pu rf tm lf (b.1 + d1, b.2 + d2) w h := by
  obtain ⟨c1, c2, c3, c4, c5, c6, c7, c8, c9⟩ := hc
  have hu := c5.1
  refine ⟨hb, NetRep_fk f hu ⟨hs.1, hs.2.2.2.2.1⟩ c2, tbs_fk f ⟨hs.2.1, hs.2.2.2.2.2⟩ c3, sts_fk f hs.2.2.1 c4, PeC_fk f ⟨hs.2.2.2.1, hs.2.2.2.2.2⟩ c5, RqsC_fk f hs.2.2.2.1 c6, c7, ⟨?_, ?_⟩, c9⟩
  · have := c8.1; show nN M1 ≤ b.1 + d1 + cpCl N w h; omega
  · have := c8.2; show nU M1 ≤ b.2 + d2 + cpWd N m w h; omega
theorem cp_b (hc : CPs M m al N pa own sd ps sn pu rf tm lf b w h) {b' : Nat × Nat} (h1 : b.1 ≤ b'.1) (h2 : b.2 ≤ b'.2) : CPs M m al N pa own sd ps sn pu rf tm lf b' w h := by
  obtain ⟨c1, c2, c3, c4, c5, c6, c7, c8, c9⟩ := hc
  exact ⟨c1, c2, c3, c4, c5, c6, c7, ⟨by omega, by omega⟩, c9⟩
/-- one is added to a work's lookup -/
theorem lc_add {ad stt : Int} (hc : CPs M m al N pa own sd ps sn pu rf tm lf (eb b0 eg T) w h) (hL : LksC M m T pa lk lf eg) (ht : t < T) (hk : isK M kx) (hkx : kd M kx ≠ (3, 30) ∧ kd M kx ≠ (3, 12)) (had : 0 ≤ ad ∧ ad < 32) (hst : 0 ≤ stt ∧ stt ≤ 3) :
    ∃ M' eg', f_X15_add ((wa pa t + 5 : Nat) : Int) (kx : Int) ad stt M = some M' ∧ CPs M' m al N pa own sd ps sn pu rf tm lf (eb b0 eg' T) w h ∧ LksC M' m T pa (fup lk t ((lk t).1, (lk t).2.1, addE (lk t).1 (lk t).2.2.1 (ky (kC M kx), ad, stt, 0), (lk t).2.2.2)) lf eg' ∧ (∀ S : Nat → Bool, S 6 = true → FK S M M') ∧ (∀ z, isK M z → kd M z ≠ (3, 30) → kd M z ≠ (3, 12) → isK M' z ∧ kC M' z = kC M z) := by
  obtain ⟨v1, v2, v3, v4, v5⟩ := hL.2.2.1 t ht
  have hu := hL.1
  obtain ⟨M', A', D', e1, e2, e3, e4, e5, e6⟩ := c_ladd v2 hu hk ⟨hkx.1, fun z => hkx.2 (by rw [z]; exact v2.1.2.2.2.2.1)⟩ had hst
  have ex3 : ExA (AL3 (wa pa t + 5) (eg t).1 (eg t).2) M M' := e5.mono (fun q hq => Or.inl hq)
  have L' := lks_step (k' := ((lk t).1, (lk t).2.1, addE (lk t).1 (lk t).2.2.1 (ky (kC M kx), ad, stt, 0), (lk t).2.2.2)) hL ht ex3 e2 (by rw [e6 4 (by decide)]; exact v3) (by rw [e6 5 (by decide)]; exact v4) e3
  have F : ∀ S : Nat → Bool, S 6 = true → FK S M M' := fun S hs => FK_exa ex3 (fun q _ hq => by rw [al3_mo v2 hq]; exact hs)
  have f6 := F (fun z => z == 6) (by decide)
  have es := sum_eg (eg := eg) (D' := D') (A' := A') ht
  have hA := e3.1
  have keys : ∀ z, isK M z → kd M z ≠ (3, 30) → kd M z ≠ (3, 12) → isK M' z ∧ kC M' z = kC M z := fun z hz z1 z2 => by
    have hl := isK_lt hu hz
    have nz : ∀ q, (q = z ∨ q = z + 1) → ¬ AL (wa pa t + 5) (eg t).1 (eg t).2 q := fun q hq z' => by
      have kq : (kd M q).1 = 3 ∨ kd M q = (64, 5) := by
        rcases hq with y | y <;> rw [y]
        · exact Or.inl hz.1
        · exact Or.inr hz.2.2
      rcases z' with y | y | ⟨i, hi, y | y⟩
      · rw [y, v2.1.1] at kq; rcases kq with k | k <;> exact absurd k (by decide)
      · rw [y, v2.1.2.2.1] at kq; rcases kq with k | k <;> exact absurd k (by decide)
      · rw [y, (v2.2.2.2.2.2.1 i hi).2.1] at kq; rcases kq with k | k <;> exact absurd k (by decide)
      · have hen := (v2.2.2.2.2.2.1 i hi).2
        rcases hq with q1 | q1
        · have : kd M z = (64, 5) := by rw [← q1, y, show (eg t).2 i + 2 = (eg t).2 i + 1 + 1 from rfl, hen.2.2.2.2.2]
          have k3 := hz.1
          rw [this] at k3; exact absurd k3 (by decide)
        · have : z = (eg t).2 i + 1 := by omega
          rw [this, hen.2.2.1] at z1
          exact z1 rfl
    exact ⟨e5.isK hu (nz z (Or.inl rfl)) hz, e5.kC hl (nz (z + 1) (Or.inr rfl))⟩
  refine ⟨M', fup eg t (A', D'), e1, ?_, L', F, keys⟩
  · have := cp_w6 (d1 := 3 * (A' - (eg t).1)) (d2 := 10 * (A' - (eg t).1)) hc f6 (by decide) (BoC_fk f6 hu (by decide) hc.1) (by omega) (by omega)
    refine cp_b this ?_ ?_
    · show b0.1 + 3 * sumN (fun t => (eg t).1) T + _ ≤ b0.1 + 3 * sumN (fun q => (fup eg t (A', D') q).1) T
      omega
    · show b0.2 + 10 * sumN (fun t => (eg t).1) T + _ ≤ b0.2 + 10 * sumN (fun q => (fup eg t (A', D') q).1) T
      omega
/-- a lookup of a work begins -/
theorem lc_look (hc : CPs M m al N pa own sd ps sn pu rf tm lf (eb b0 eg T) w h) (ho : okW N own tm w) (hL : LksC M m T pa lk lf eg) (ht : t < T) (hp : p < N) (hpr : rR M (wa pa t) 2 = ((pa p : Nat) : Int)) (hk : isK M kx) (hkx : kd M kx ≠ (3, 30) ∧ kd M kx ≠ (3, 12)) :
    ∃ M' eg', f_X11_look ((wa pa t : Nat) : Int) (kx : Int) (b2i sk) M = some (1, M') ∧ CPs M' m al N pa own sd ps sn pu rf tm lf (eb b0 eg' T) w h ∧ LksC M' m T pa (fup lk t (ky (kC M kx), sk, begE m (own p) p (wT w p) (ky (kC M kx)), 0)) lf eg' ∧ FK (fun z => z == 6 || z == 7) M M' := by
  obtain ⟨key, hkey⟩ : ∃ key, key = ky (kC M kx) := ⟨_, rfl⟩
  obtain ⟨a, ha⟩ : ∃ a, a = wa pa t := ⟨_, rfl⟩
  obtain ⟨v1, v2, v3, v4, v5⟩ := hL.2.2.1 t ht
  have hu := hL.1
  rw [← hkey, ← ha]
  rw [← ha] at v1 v2 v3 v4 hpr
  -- begin
  obtain ⟨M1, e1, e2, e3, e4, e5⟩ := c_lbegin (sk := sk) v2 hk
  rw [← hkey] at e2
  have ex1 : ExA (AL3 (a + 5) (eg t).1 (eg t).2) M M1 := (ExC_ex e3).exa.mono (fun q hq => by rcases hq with z | z; exact Or.inl (Or.inl z); exact Or.inr z)
  have L1 := lks_step (t := t) (k' := (key, sk, [], 0)) hL ht (by rw [← ha]; exact ex1) (by rw [← ha]; exact e2) (by rw [← ha]; exact e4) (by rw [← ha]; exact e5) DW.refl
  have eg1 : fup eg t ((eg t).1, (eg t).2) = eg := fup_self
  rw [eg1] at L1
  have f1 : FK (fun z => z == 6) M M1 := FK_exa ex1 (fun q _ hq => by rw [al3_mo v2 hq]; decide)
  have C1 : CPs M1 m al N pa own sd ps sn pu rf tm lf (eb b0 eg T) w h := by
    have := cp_w6 (d1 := 0) (d2 := 0) hc f1 (by decide) (BoC_fk f1 hu (by decide) hc.1) (by rw [e3.nN]; omega) (by rw [e3.nU]; omega)
    exact this
  have k1 : isK M1 kx := hk.ex e3
  have kk1 : ky (kC M1 kx) = key := by
    have : kC M1 kx = kC M kx := by
      funext i
      refine e3.rI (fun z => ?_) i
      rcases z with z | z
      · have := hk.2.2; rw [z, v2.1.1] at this; exact absurd this (by decide)
      · have : kx = a + 5 + 2 := by omega
        rw [this] at hkx
        exact hkx.2 v2.1.2.2.2.2.1
    rw [this]; exact hkey.symm
  have kd1 : ∀ z, kd M1 z = kd M z := fun z => e3.kd z
  have rpr : rR M1 a 2 = ((pa p : Nat) : Int) := by rw [e3.rR]; exact hpr
  have k11 : (kd M a).1 = 11 := v1.1
  -- itself
  obtain ⟨pe1, p276, hown1, _⟩ := C1.2.2.2.2.1.2.2 p hp
  obtain ⟨M2, eg2, b1, b2, b3, b4, b5⟩ := lc_add (kx := pa p + 1) (ad := (p : Int)) (stt := 2) C1 L1 ht pe1.2.2.2.2.1 ⟨by rw [pe1.2.2.2.1]; decide, by rw [pe1.2.2.2.1]; decide⟩ (by have := ho.2.2.1; omega) (by omega)
  rw [fup_eq, fup_fup, hown1] at b3
  dsimp only at b3
  obtain ⟨k2, kk2⟩ := b5 kx k1 (by rw [kd1]; exact hkx.1) (by rw [kd1]; exact hkx.2)
  have f2 : FK (fun z => z == 6) M1 M2 := b4 _ (by decide)
  -- the nearest
  obtain ⟨c1, c2, c3, c4, c5, c6, c7, c8, c9⟩ := id b2
  obtain ⟨pe2, _, hown2, _⟩ := c5.2.2 p hp
  have tt2 := (c3.2.2.2.2.2 p hp).2
  obtain ⟨M3, Q, n1, n2, n3, n4, n5⟩ := c_nearest (be := 47) (kb := 230) (wo := none) (x2 := -1) tt2 (ho.2.2.2 p hp).1 k2 (Or.inl ⟨rfl, rfl⟩) ⟨c1.1.2.2.2.2.2.1, by decide, by decide, by decide⟩
  rw [kk2, kk1] at n3
  have f3 : FK (fun z => z == 7) M2 M3 := FK_exc n5 (fun q _ hq => by have : q = 47 := hq; rw [this, (BdS_mo c1.1).2.2.2.1]; decide)
  have bo3 : BoC M3 m al N pa := BoC_near (n5.mono (fun q hq => Or.inl hq)) (by
    have := c1.1.2.2.2.2.2.2.1.2.1
    exact ⟨by rw [n5.kd]; exact this.1, by rw [n5.rR (by decide)]; exact this.2.1, by rw [n5.kd]; exact this.2.2⟩) c1
  have C3 := cp_b7 b2 f3 bo3 ⟨n5.nN, n5.nU⟩
  have L3 := LksC_fk f3 (by decide) b3
  obtain ⟨rs, hrs⟩ : ∃ rs, rs = (nearT m key none (wT w p)).map kad := ⟨_, rfl⟩
  rw [← hrs] at n3
  have lQ : rs.length = Q.length := by rw [← n3, List.length_map]
  have lm : Q.length ≤ m := n2.2.2.1
  have m20 : m ≤ 20 := c1.1.2.2.2.2.2.2.2.2.2.2
  have rad : ∀ x, x ∈ rs → 0 ≤ x.2 ∧ x.2 < 32 := fun x hx => by
    rw [hrs] at hx
    obtain ⟨y, hy, e⟩ := List.mem_map.mp hx
    have hy2 : y ∈ wT w p := by
      unfold nearT at hy
      have := (srt_perm _ _).mem_iff.mp (List.mem_of_mem_take hy)
      exact (List.mem_filter.mp this).1
    rw [← e]
    exact (ho.2.2.2 p hp).2.2.1 y hy2
  obtain ⟨E1, hE1⟩ : ∃ E1, E1 = addE key [] (own p, (p : Int), 2, 0) := ⟨_, rfl⟩
  rw [← hE1] at L3
  have loop : ∀ d j fu (U : MM) (egU : EG), d + j = Q.length → d < fu → CPs U m al N pa own sd ps sn pu rf tm lf (eb b0 egU T) w h → LksC U m T pa (fup lk t (key, sk, (rs.take j).foldl (fun E x => addE key E (x.1, x.2, 0, 0)) E1, 0)) lf egU → FK (fun z => z == 6) M3 U → ∃ U' eg', lpN (fun s : Int × MM => b_X11_look_54 ((a : Nat) : Int) ((Q.length : Nat) : Int) s.1 s.2) fu ((j : Int), U) = some (1, U') ∧ CPs U' m al N pa own sd ps sn pu rf tm lf (eb b0 eg' T) w h ∧ LksC U' m T pa (fup lk t (key, sk, rs.foldl (fun E x => addE key E (x.1, x.2, 0, 0)) E1, 0)) lf eg' ∧ FK (fun z => z == 6) M3 U' := by
    intro d
    induction d with
    | zero =>
      intro j fu U egU hd hf cU lU fU
      have e : j = Q.length := by omega
      subst e
      rw [List.take_of_length_le (by omega)] at lU
      refine ⟨U, egU, ?_, cU, lU, fU⟩
      refine lpN_end (b := fun s : Int × MM => b_X11_look_54 ((a : Nat) : Int) ((Q.length : Nat) : Int) s.1 s.2) (by omega) ?_
      dsimp only
      unfold b_X11_look_54
      rw [if_neg (by omega)]
    | succ d ih =>
      intro j fu U egU hd hf cU lU fU
      obtain ⟨f, rfl⟩ : ∃ f, fu = f + 1 := ⟨fu - 1, by omega⟩
      obtain ⟨x, hx⟩ : ∃ x, x = rs.getD j ((0, 0, 0, 0, 0), 0) := ⟨_, rfl⟩
      have xad := rad x (by rw [hx]; exact getD_mem (by omega))
      obtain ⟨c, hcc⟩ : ∃ c, c = Q.getD j 0 := ⟨_, rfl⟩
      have hct := n2.2.2.2.2 c (by rw [hcc]; exact getD_mem (by omega))
      have hcx : ctc M3 c = x := by
        have e1 : ctc M3 c = ctc M2 c := ctc.exc n5 (by have := bst_ne n2.1 n2.2.1 hct; omega) (by have := bst_ne n2.1 n2.2.1 hct; omega)
        rw [e1, hx, ← n3, hcc, gd_get (by omega), gd_get (S := List.map _ Q) (by rw [List.length_map]; omega), List.getElem_map]
      have hu3 := C3.2.2.2.2.1.1
      have hcl := isCt_lt hu3 hct
      have m2c : ∀ z, c ≤ z → z ≤ c + 2 → mo M3 z = 2 := fun z z1 z2 => ct_mo hct z1 z2
      have cU2 : isCt U c := hct.exa fU hu3 (FK.no (S := fun z => z == 6) (by rw [m2c c (by omega) (by omega)]; decide)) (FK.no (S := fun z => z == 6) (by rw [m2c (c + 1) (by omega) (by omega)]; decide))
      have cxU : ctc U c = x := by rw [← hcx]; exact ctc.exa fU hu3 hct (FK.no (S := fun z => z == 6) (by rw [m2c c (by omega) (by omega)]; decide)) (FK.no (S := fun z => z == 6) (by rw [m2c (c + 2) (by omega) (by omega)]; decide))
      obtain ⟨y1, y2, y3, y4, y5⟩ := lU.2.2.1 t ht
      rw [← ha] at y1
      have bU := cU.1
      have l47 : 47 < nN M3 := hu3.lt (by rw [bo3.1.2.2.2.2.2.1]; show 230 ≠ 63; decide)
      have r47 : rR U 47 j = ((c : Nat) : Int) := by
        rw [fU.rR l47 (by rw [(BdS_mo bo3.1).2.2.2.1]; decide), hcc]
        exact n2.2.2.2.1 j (by omega)
      obtain ⟨U1, eg1', g1, g2, g3, g4, g5⟩ := lc_add (kx := c + 1) (ad := x.2) (stt := 0) cU lU ht cU2.2.2.2 ⟨by rw [cU2.2.2.1]; decide, by rw [cU2.2.2.1]; decide⟩ xad (by omega)
      have ek : ky (kC U (c + 1)) = x.1 := congrArg Prod.fst cxU
      have ea : rI U c 1 = x.2 := congrArg Prod.snd cxU
      rw [fup_eq, fup_fup, ek] at g3
      dsimp only at g3
      rw [← ha] at g1
      have st : b_X11_look_54 ((a : Nat) : Int) ((Q.length : Nat) : Int) (j : Int) U = some (.inl (((j + 1 : Nat) : Int), U1)) := by
        unfold b_X11_look_54
        rw [w32_nn (by omega), w32_nn (by omega), if_pos (by omega), gfr_e y1.1, y1.2.1.2.1, Option.bind_some, gfr_e y1.1, y1.2.1.1, Option.bind_some, gfr_e (by rw [bU.1.1]), bU.1.2.2.1.2.2.2.2.1, Option.bind_some, lar_n bU.1.2.2.2.2.2.1 (by decide) (by omega) (by omega), r47, Option.bind_some, gfr_e (by rw [cU2.1]), cU2.2.1, Option.bind_some, Option.bind_some, gfr_e (by rw [bU.1.1]), bU.1.2.2.1.2.2.2.2.1, Option.bind_some, lar_n bU.1.2.2.2.2.2.1 (by decide) (by omega) (by omega), r47, Option.bind_some, gfi_e (by rw [cU2.1]), ea, Option.bind_some, ck_e (by rw [ha]; rw [y2.1.1]), g1, Option.bind_some]
        rfl
      rw [lpN_cnt (b := fun s : Int × MM => b_X11_look_54 ((a : Nat) : Int) ((Q.length : Nat) : Int) s.1 s.2) (s := ((j : Int), U)) st]
      refine ih (j + 1) f U1 eg1' (by omega) (by omega) g2 ?_ (fU.trans (g4 _ (by decide)))
      rw [take_s (d := ((0, 0, 0, 0, 0), (0 : Int))) (by omega), List.foldl_append, ← hx]
      exact g3
  obtain ⟨U, egU, u1, u2, u3, u4⟩ := loop Q.length 0 FU M3 eg2 (by omega) (by unfold FU; omega) C3 (by rw [List.take_zero]; exact L3) FK.refl
  have la : a < nN M1 := by rw [e3.nN]; have := WlS_lt hu v1; omega
  have m6a : mo M1 a = 12 := by rw [exa_mo f1 (by have := WlS_lt hu v1; omega)]; exact (Wl_mo v1).1
  refine ⟨U, egU, ?_, u2, ?_, ?_⟩
  · unfold f_X11_look l_X11_look_54
    obtain ⟨y1, y2, _⟩ := b3.2.2.1 t ht
    obtain ⟨w1, w2, _⟩ := L1.2.2.1 t ht
    rw [← ha] at y1 w1
    have k11' : (kd M1 a).1 = 11 := by rw [kd1]; exact k11
    have pr2 : rR M2 a 2 = ((pa p : Nat) : Int) := by
      rw [f2.rR la (by rw [m6a]; decide)]; exact rpr
    rw [gfr_e v1.1, v1.2.1.2.1, Option.bind_some, ck_e (by rw [v2.1.1]), e1, Option.bind_some, gfr_e w1.1, w1.2.1.2.1, Option.bind_some, gfr_e w1.1, rpr, Option.bind_some, gfr_e (by rw [pe1.1]), pe1.2.2.1.2.1, Option.bind_some, Option.bind_some, gfi_e (by rw [pe1.1]), pe1.2.1, Option.bind_some, ck_e (by rw [ha, w2.1.1])]
    rw [ha]
    rw [b1, Option.bind_some]
    rw [← ha]
    rw [gfr_e y1.1, pr2, Option.bind_some, gfr_e (by rw [pe2.1]), pe2.2.2.1.2.2.1, Option.bind_some, gfr_e y1.1, y1.2.1.1, Option.bind_some, gfr_e (by rw [c1.1.1]), c1.1.2.2.1.2.2.2.2.1, Option.bind_some, ck_e tt2.1.2.1.1, show f_X20_nearest ((pa p + 10 : Nat) : Int) (kx : Int) (-1) ((47 : Nat) : Int) M2 = _ from n1, Option.bind_some]
    exact u1
  · unfold begE
    rw [← hrs, ← hE1]
    exact u3
  · exact (((f1.mono (fun z hz => by revert hz; simp only [Bool.or_eq_true, beq_iff_eq]; omega)).trans (f2.mono (fun z hz => by revert hz; simp only [Bool.or_eq_true, beq_iff_eq]; omega))).trans (f3.mono (fun z hz => by revert hz; simp only [Bool.or_eq_true, beq_iff_eq]; omega))).trans (u4.mono (fun z hz => by revert hz; simp only [Bool.or_eq_true, beq_iff_eq]; omega))
end CLOOK2
