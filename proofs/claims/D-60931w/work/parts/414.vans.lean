/-! the reference loses, sends again, removes; tells nodes -/
section VANS
variable {V W : VV} {S : Nat → Bool} {m al N p i : Nat} {own : Nat → Ky} {sd ps sn pu rf : Nat → Int} {tm ad : Int} {w : Wd} {L Z : Nat} {l ol : List Int} {e q n : Nat}
theorem vp_lose (h : VP V m al N own sd ps sn pu rf tm w L Z) (hp : p < N) (ha : 0 ≤ ad ∧ ad < 32) (hZ : Z < 2147483647) (he : mA e n) (hq : q + 5 ≤ n) (hn : n ≤ 1000000) :
    ∃ V' Z', f_X16_lose (p : Int) (e : Int) (q : Int) ad V = some V' ∧ VP V' m al N own sd ps sn pu rf tm (loseY own w p (gk V e q) ad) L Z' ∧ Z ≤ Z' ∧ Z' ≤ Z + 1 ∧ FrV m2 V V' := by
  obtain ⟨h1, h2, h3, h4, h5, h6, h7, h8⟩ := h
  have hN := h2.2.1
  obtain ⟨V1, Z1, e1, e2, e3, e4, e5⟩ := v_lose (ad := ad) h3 (show p < 32 by omega) he hq hn (w32_id (by omega) (by omega)) hZ
  exact ⟨V1, Z1, e1, ⟨VNet_fr e5 (by decide) h1, PV_frV e5 (by decide) h2, e2, sts_frV e5 (by decide) h4, rqs_frV e5 ⟨by decide, by decide⟩ h5, by rw [fv e5 (show m2 (mv 156 0) = false from rfl)]; exact h6, by rw [fv e5 (show m2 (mv 156 1) = false from rfl)]; exact h7, h8⟩, e3, e4, e5⟩
theorem pw_nodup {R : List Rq} (h : R.Pairwise (fun a b => qNum a < qNum b)) : (R.map qNum).Nodup := by
  rw [List.Nodup, List.pairwise_map]
  exact h.imp (fun z => by omega)
theorem rmQ_erase {R : List Rq} (h : R.Pairwise (fun a b => qNum a < qNum b)) (hi : i < R.length) : rmQ R (qNum (R.getD i q0)) = R.eraseIdx i := by
  rw [er_filter qNum R i hi (pw_nodup h), gd_get hi]
  rfl
/-- the slot of a request -/
theorem rq_at (h : VP V m al N own sd ps sn pu rf tm w L Z) (hp : p < N) (hi : i < (wQ w p).length) : ∃ s, s ∈ slQ V p ∧ gQ V s = (wQ w p).getD i q0 := by
  have hN := h.2.1.2.1
  exact rq_row (h.2.2.2.2.1 p (by omega)) (by rw [gd_get hi]; exact List.getElem_mem hi)
theorem vp_again {s : Nat} (h : VP V m al N own sd ps sn pu rf tm w L Z) (ho : okW N own tm w) (hp : p < N) (hi : i < (wQ w p).length) (hs : s ∈ slQ V p) (hsy : gQ V s = (wQ w p).getD i q0) (hsn : qSnt ((wQ w p).getD i q0) < 4) (hL : L + 2 < 2000000000) :
    ∃ V' L', f_X16_go (p : Int) (s : Int) V = some V' ∧ VP V' m al N own sd ps sn pu rf tm (againY N sd tm w p i ((wQ w p).getD i q0)) L' Z ∧ L ≤ L' ∧ L' ≤ L + 2 ∧ FrS PG V V' ∧ SK V V' := by
  obtain ⟨h1, h2, h3, h4, h5, h6, h7, h8⟩ := h
  have hN := h2.2.1
  obtain ⟨V', L', e1, e2, e3, e4, e5, e6, e7, e8⟩ := v_go h5 hs (show p < 32 by omega) h1 h2 ho.1 ho.2.1 hL (by rw [hsy]; exact hsn)
  rw [hsy] at e2 e3
  rw [upQ_set (x := goQ ((wQ w p).getD i q0) (tm + wst w 4)) (pw_nodup (ho.2.2.2 p hp).2.2.2.2.1) hi rfl] at e2
  have f : FrV (fun z => z == 1 || z == 5 || z == 9) V V' := e7.fr (fun a i ha => by
    rcases ha with z | z | z
    · rw [z]; decide
    · rw [z]; decide
    · unfold PO at z
      rcases z with z | z
      · rw [z]; rfl
      · rw [z.1, z.2]; rfl)
  exact ⟨V', L', e1, ⟨e3, e6, tabs_frV f (by decide) h3, sts_frV f (by decide) h4, e2, by rw [fv f (show (fun z => z == 1 || z == 5 || z == 9) (mv 156 0) = false from rfl)]; exact h6, by rw [fv f (show (fun z => z == 1 || z == 5 || z == 9) (mv 156 1) = false from rfl)]; exact h7, h8⟩, e4, e5, e7, e8⟩
theorem vp_rm {s : Nat} (h : VP V m al N own sd ps sn pu rf tm w L Z) (ho : okW N own tm w) (hp : p < N) (hi : i < (wQ w p).length) (hs : s ∈ slQ V p) (hsy : gQ V s = (wQ w p).getD i q0) :
    s2z 197 1280 (s : Int) 0 V = some (st2 V 197 s 0) ∧ VP (st2 V 197 s 0) m al N own sd ps sn pu rf tm (setQ w (fup (wQ w) p ((wQ w p).eraseIdx i))) L Z := by
  obtain ⟨h1, h2, h3, h4, h5, h6, h7, h8⟩ := h
  have hN := h2.2.1
  obtain ⟨e1, e2⟩ := v_rmq h5 (show p < 32 by omega) hs
  rw [hsy, rmQ_erase (ho.2.2.2 p hp).2.2.2.2.1 hi] at e2
  have f : FrV (fun z => z == 5) V (st2 V 197 s 0) := FrV_st rfl
  refine ⟨e1, ⟨VNet_fr f (by decide) h1, PV_ag h2 (fun a i ha => ?_), tabs_frV f (by decide) h3, sts_frV f (by decide) h4, e2, by rw [fv f (show (fun z => z == 5) (mv 156 0) = false from rfl)]; exact h6, by rw [fv f (show (fun z => z == 5) (mv 156 1) = false from rfl)]; exact h7, h8⟩⟩
  rw [vI_st2, if_neg (by omega)]
/-- a key of what came -/
theorem v_keyIn (hI : InV V l) (hb : isBL l) (he : mA e n) (hn : 5 ≤ n) (hne : e ≠ 271) (hl : q + 20 ≤ l.length) : ∃ V', f_X16_keyAt (e : Int) (q : Int) V = some V' ∧ gk V' e 0 = kyP l q ∧ FrS (fun a _ => a = e) V V' := by
  have h460 := hI.2.1
  obtain ⟨V', e1, e2, e3⟩ := e_keyAt (V := V) he hn hne (show q + 20 ≤ 460 by omega) (fun i hi => by rw [(InV_get hI hb (by omega)).1]; exact (InV_get hI hb (by omega)).2)
  refine ⟨V', e1, ?_, fun a i ha => e3 a ha i⟩
  unfold kyP
  rw [← kB_congr (f := bV V 271 q) (g := fun i => l.getD (q + i) 0) (fun i hi => (InV_get hI hb (by omega)).1)]
  unfold gk ky kV
  rw [show (0 : Nat) + 0 = 0 from rfl, show (0 : Nat) + 1 = 1 from rfl, show (0 : Nat) + 2 = 2 from rfl, show (0 : Nat) + 3 = 3 from rfl, show (0 : Nat) + 4 = 4 from rfl]
  rw [e2 0 (by decide), e2 1 (by decide), e2 2 (by decide), e2 3 (by decide), e2 4 (by decide)]
def PN (a i : Nat) : Prop := a = 195 ∨ a = 196 ∨ (a = 156 ∧ i = 50) ∨ PO a i
theorem v_tellNodes {T : List Row} {ow : Ky} (hT : TabV V p ow T Z) (hp : p < 32) (hk0 : vI V 156 0 = (m : Int)) (hk : 1 ≤ m ∧ m ≤ 20) (hI : InV V l) (hb : isBL l) (hl : 45 ≤ l.length) (ho : OutV V ol) (hol : ol.length + 1 + 21 * m ≤ 460) (hta : ∀ x, x ∈ T → 0 ≤ x.2.1 ∧ x.2.1 < 32) :
    ∃ V', f_X16_tellNodes (p : Int) V = some V' ∧ OutV V' (ol ++ nodesB ((nearT m (kyP l 25) (some (gk V 272 0)) T).map kad)) ∧ FrS PN V V' := by
  have m195 : mA 195 5 := ⟨by decide, by decide, by decide, by decide, by decide⟩
  obtain ⟨V1, a1, a2, a3⟩ := v_keyIn (e := 195) (n := 5) (q := 25) hI hb m195 (by decide) (by decide) (by omega)
  have g1 : ∀ a i, a ≠ 195 → vI V1 a i = vI V a i := fun a i ha => a3.vI ha
  have T1 : TabV V1 p ow T Z := by
    obtain ⟨h1, h2, TS, t1, t2, t3, t4⟩ := hT
    refine ⟨by rw [g1 189 p (by decide)]; exact h1, h2, TS, t1, t2, t3, ?_⟩
    have : rowsV V1 p T.length = rowsV V p T.length := rws_congr (fun i _ => by
      unfold gR
      rw [g1 191 _ (by decide), g1 192 _ (by decide), g1 193 _ (by decide), g1 194 _ (by decide), gk_ext (fun i _ => g1 190 _ (by decide))])
    rw [this]; exact t4
  have w272 : gk V1 272 0 = gk V 272 0 := gk_ext (fun i _ => g1 272 _ (by decide))
  obtain ⟨V2, Ls, b1, b2, b3, b4, b5, b6⟩ := v_nodesFor (x2 := 272) (x3 := 0) (wo := some (gk V 272 0)) T1 hp (by rw [g1 156 0 (by decide)]; exact hk0) hk (Or.inr ⟨272, 0, 5, rfl, rfl, m272, by decide, by decide, by decide, by rw [w272]⟩)
  rw [a2] at b6
  obtain ⟨rs, hrs⟩ : ∃ rs, rs = (nearT m (kyP l 25) (some (gk V 272 0)) T).map kad := ⟨_, rfl⟩
  have b6 : Ls.map (fun r => ((gR V1 r).1, (gR V1 r).2.1)) = rs := by rw [hrs]; exact b6
  have lrs : rs.length = Ls.length := by rw [← b6, List.length_map]
  have lm : rs.length ≤ m := by
    rw [hrs, List.length_map]
    unfold nearT
    rw [List.length_take]
    omega
  have rad : ∀ x, x ∈ rs → 0 ≤ x.2 ∧ x.2 < 32 := fun x hx => by
    rw [hrs] at hx
    obtain ⟨y, hy, e⟩ := List.mem_map.mp hx
    have hy2 : y ∈ T := by
      unfold nearT at hy
      have := (srt_perm _ _).mem_iff.mp (List.mem_of_mem_take hy)
      exact (List.mem_filter.mp this).1
    rw [← e]
    exact hta y hy2
  have tl := T1.2.1.1
  have g2 : ∀ a i, a ≠ 196 → ¬ (a = 156 ∧ i = 50) → vI V2 a i = vI V1 a i := fun a i x y => by show w32 _ = w32 _; rw [b2 a i x y]
  have o2 : OutV V2 ol := by
    refine ⟨by rw [g2 _ _ (by decide) (by decide), g1 _ _ (by decide)]; exact ho.1, ho.2.1, fun i hi => by rw [g2 _ _ (by decide) (by omega), g1 _ _ (by decide)]; exact ho.2.2 i hi⟩
  have hL20 : Ls.length ≤ 20 := by omega
  obtain ⟨V3, c1, c2, c3, c4⟩ := v_byteOut (x := ((Ls.length : Nat) : Int)) (y := ((Ls.length : Nat) : Int)) o2 (by omega) (bd255 (by omega)) (by omega)
  have F3 := byteOut_fr c1
  have rowV : ∀ i, i < Ls.length → Ls.getD i 0 < 35200 ∧ (gk V1 190 (5 * Ls.getD i 0), vI V1 191 (Ls.getD i 0)) = rs.getD i ((0, 0, 0, 0, 0), 0) := fun i hi => by
    obtain ⟨j, j1, j2⟩ := b5 (Ls.getD i 0) (getD_mem hi)
    refine ⟨by omega, ?_⟩
    rw [← b6, gd_get hi, gd_get (S := List.map _ Ls) (by rw [List.length_map]; exact hi), List.getElem_map]
    rfl
  have loop : ∀ d j fu (U : VV), d + j = Ls.length → d < fu → FrS PO V2 U → OutV U (ol ++ (((Ls.length : Nat) : Int) :: (rs.take j).flatMap (fun x => kbs x.1 ++ be x.2 1))) → ∃ U', lpN (fun s : Int × VV => b_X16_tellNodes_30 s.1 s.2) fu ((j : Int), U) = some U' ∧ FrS PO V2 U' ∧ OutV U' (ol ++ (((Ls.length : Nat) : Int) :: rs.flatMap (fun x => kbs x.1 ++ be x.2 1))) := by
    intro d
    induction d with
    | zero =>
      intro j fu U hd hf hU hO
      have e : j = Ls.length := by omega
      subst e
      rw [List.take_of_length_le (by omega)] at hO
      refine ⟨U, ?_, hU, hO⟩
      refine lpN_end (b := fun s : Int × VV => b_X16_tellNodes_30 s.1 s.2) (by omega) ?_
      dsimp only
      unfold b_X16_tellNodes_30
      have : w32 (U 156 50) = ((Ls.length : Nat) : Int) := by
        have : vI U 156 50 = vI V2 156 50 := hU.vI (by unfold PO; omega)
        exact this.trans b3
      rw [this, if_neg (by omega)]
    | succ d ih =>
      intro j fu U hd hf hU hO
      obtain ⟨f, rfl⟩ : ∃ f, fu = f + 1 := ⟨fu - 1, by omega⟩
      obtain ⟨r1, r2⟩ := rowV j (by omega)
      obtain ⟨x, hx⟩ : ∃ x, x = rs.getD j ((0, 0, 0, 0, 0), 0) := ⟨_, rfl⟩
      rw [← hx] at r2
      have xad := rad x (by rw [hx]; exact getD_mem (by omega))
      have u50 : w32 (U 156 50) = ((Ls.length : Nat) : Int) := by
        have : vI U 156 50 = vI V2 156 50 := hU.vI (by unfold PO; omega)
        exact this.trans b3
      have uv : ∀ a i, a ≠ 188 → a ≠ 156 → a ≠ 196 → a ≠ 195 → vI U a i = vI V1 a i := fun a i x1 x2 x3 x4 => by
        rw [hU.vI (by unfold PO; omega), g2 a i x3 (by omega)]
      have u196 : vI U 196 j = ((Ls.getD j 0 : Nat) : Int) := by
        rw [hU.vI (by unfold PO; omega)]
        exact b4 j (by omega)
      have lenO : (ol ++ (((Ls.length : Nat) : Int) :: (rs.take j).flatMap (fun x => kbs x.1 ++ be x.2 1))).length = ol.length + 1 + 21 * j := by
        rw [List.length_append, List.length_cons, nodesB_flat, List.length_take]; omega
      obtain ⟨U1, k1, k2, k3, k4⟩ := v_keyOut (e := 190) (n := 176000) (p := 5 * Ls.getD j 0) m190 (by decide) (by omega) (by decide) hO (by rw [lenO]; omega)
      have F1 := keyOut_fr k1
      have ek : kby (kV U 190 (5 * Ls.getD j 0)) = kbs x.1 := by
        rw [kby_ky]
        have : gk U 190 (5 * Ls.getD j 0) = gk V1 190 (5 * Ls.getD j 0) := gk_ext (fun i _ => uv 190 _ (by decide) (by decide) (by decide) (by decide))
        show kbs (gk U 190 _) = _
        rw [this]
        exact congrArg kbs (congrArg Prod.fst r2)
      rw [ek] at k2
      obtain ⟨U2, y1, y2, y3, y4⟩ := v_byteOut (x := x.2) (y := x.2) k2 (by rw [List.length_append, lenO, kbs_len]; omega) (bd255 (by omega)) (by omega)
      have F2 := byteOut_fr y1
      have v191 : vI U1 191 (Ls.getD j 0) = x.2 := by
        rw [F1.vI (by unfold PO; omega), uv 191 _ (by decide) (by decide) (by decide) (by decide)]
        exact congrArg Prod.snd r2
      have st : b_X16_tellNodes_30 (j : Int) U = some (.inl (((j + 1 : Nat) : Int), U2)) := by
        unfold b_X16_tellNodes_30
        rw [u50, w32_nn (by omega), w32_nn (by omega), if_pos (by omega), l2_e (w32_nn (by omega)) (by omega), u196, Option.bind_some, show (5 * ((Ls.getD j 0 : Nat) : Int)) = ((5 * Ls.getD j 0 : Nat) : Int) by omega, show f_X16_keyOut 190 ((5 * Ls.getD j 0 : Nat) : Int) U = some U1 from k1, Option.bind_some, l2_e (w32_nn (by omega)) (by omega), F1.vI (by unfold PO; omega), u196, Option.bind_some, l2_e (w32_nn (by omega)) r1, v191, Option.bind_some, y1, Option.bind_some]
        rfl
      rw [lpN_cnt (b := fun s : Int × VV => b_X16_tellNodes_30 s.1 s.2) (s := ((j : Int), U)) st]
      refine ih (j + 1) f U2 (by omega) (by omega) ((hU.trans F1).trans F2) ?_
      rw [flat_take (fun x => kbs x.1 ++ be x.2 1) ((0, 0, 0, 0, 0), 0) (by omega), ← hx, be1 (by omega)]
      rw [List.append_assoc, List.append_assoc] at y2
      exact y2
  obtain ⟨U, u1, u2, u3⟩ := loop Ls.length 0 FU V3 (by omega) (by unfold FU; omega) F3 (by rw [List.take_zero]; exact c2)
  refine ⟨U, ?_, ?_, ?_⟩
  · unfold f_X16_tellNodes l_X16_tellNodes_30
    have e50 : w32 (V2 156 50) = ((Ls.length : Nat) : Int) := b3
    rw [show f_X16_keyAt 195 25 V = some V1 from a1, Option.bind_some, b1, Option.bind_some, e50, c1, Option.bind_some]
    exact u1
  · rw [← hrs]
    unfold nodesB
    rw [lrs]
    exact u3
  · intro a i ha
    unfold PN at ha
    rw [u2 a i (fun z => ha (Or.inr (Or.inr (Or.inr z)))), b2 a i (fun z => ha (Or.inr (Or.inl z))) (fun z => ha (Or.inr (Or.inr (Or.inl z)))), a3 a i (fun z => ha (Or.inl z))]
end VANS
