/-! times of the peers change, both sides -/
section JPAR
variable {S : Nat → Bool} {M M1 : MM} {V W : VV} {m al N p t nb oth oth' Z Z' L L' k k' K : Nat} {pa tk : Nat → Nat} {own : Nat → Ky} {sd ps sn pu rf sd' ps' sn' pu' rf' : Nat → Int} {tm tm' : Int} {lf : Nat → Nat} {b b0 B : Nat × Nat} {h h' : Gh} {eg : EG} {pb as : Nat → Option Nat} {mn sto : Nat → Int} {fa : Nat → Nat} {Y : Ys} {Lb : Nat → List Trm} {LA : Nat → List Nat} {dn : Nat → Int} {ev ev' tn nS : Nat → Nat} {w : Wd} {KL : List Ky}
theorem CW_p (hW : CW M m al N pa own sd ps sn pu rf tm lf b0 eg tk pb as nb mn fa Lb LA dn sto Y h) (h3 : ∀ t, t < 12 + N → yv Y 226 t ≠ 0 → yv Y 227 t = 3 → yv Y 247 t ≤ 3) (hp : CPs M1 m al N pa own sd' ps' sn' pu' rf' tm' lf (eb b0 eg (12 + N)) w h') (f : FK S M M1) (hs : S 4 = false ∧ S 6 = false ∧ S 11 = false ∧ S 12 = false ∧ S 13 = false ∧ S 14 = false) : CW M1 m al N pa own sd' ps' sn' pu' rf' tm' lf b0 eg tk pb as nb mn fa Lb LA dn sto (setW Y w) h' := by
  obtain ⟨⟨hC, hPub, hLb, hrec, hmn, hst⟩, hA⟩ := hW
  have hu := hC.2.1.1
  exact ⟨⟨⟨hp, LksC_fk f ⟨hs.2.1, hs.2.2.2.1⟩ hC.2.1, Wks_fk hC.2.1 f hs.2.2.2.1 hC.2.2.1, Tks_fk hu f hs.2.2.1 hC.2.2.2⟩, Pubs_fk f hu hs.2.2.2.2.1 hPub, Libs_fk f hu hs.1 hLb, hrec, hmn, hst⟩, Asks_fk f hu hs.2.2.2.2.2 h3 hA⟩
theorem G5_m6 {a i : Nat} (z : 226 ≤ a ∧ a ≤ 270 ∧ a ≠ 240) : G5 (mv a i) = false := by
  unfold mv
  rw [if_neg (by omega)]
  unfold mvA
  rw [if_neg (by omega), if_neg (by omega), if_neg (by omega), if_neg (by omega), if_neg (by omega)]
  by_cases c1 : 226 ≤ a ∧ a ≤ 264 ∧ a ≠ 240
  · rw [if_pos c1]; decide
  · rw [if_neg c1, if_pos (by omega)]; decide
theorem G5_m4 {a i : Nat} (z : 173 ≤ a ∧ a ≤ 178) : G5 (mv a i) = false := by
  unfold mv
  rw [if_neg (by omega)]
  unfold mvA
  rw [if_neg (by omega), if_neg (by omega), if_neg (by omega), if_pos (by omega)]; decide
theorem vy_p (h : VY V m al N own sd ps sn pu rf tm Lb oth Z ev tn Y) (f : FrV G5 V W) (hP : VP W m al N own sd' ps' sn' pu' rf' tm' w L' Z') (hL : L' ≤ 2 * (sumN (wnx w) N + oth')) (ho : okW N own tm' w) (hE : EvI N ev' w) : VY W m al N own sd' ps' sn' pu' rf' tm' Lb oth' Z' ev' tn (setW Y w) := by
  obtain ⟨h1, h2, h3, h4, h5, h6, h7, h8⟩ := h
  have g : ∀ a i, G5 (mv a i) = false → vI W a i = vI V a i := fun a i z => fv f z
  refine ⟨⟨L', hP, hL⟩, ho, hE, LksV_ag h4 (fun a i z => g a i (G5_m6 (by omega))), sc_ag h5 (fun a i z => ?_), QsV_ag h6 (fun a i z => g a i (G5_m6 (by omega))), LbV_ag h7 (fun a i z => g a i (G5_m4 (by omega))), TmV_ag h8 (fun a i z => ?_) (fun t _ z1 z2 => ⟨⟨z1, z2⟩, rfl, rfl, rfl⟩)⟩
  · by_cases c : a = 156
    · have e : a = 156 ∧ i = 91 := by unfold scA at z; omega
      rw [e.1, e.2]; exact g 156 91 rfl
    · exact g a i (G5_m6 (by unfold scA at z; omega))
  · rcases z with z | z
    · exact g a i (G5_m4 (by omega))
    · exact g a i (G5_m6 (by omega))
theorem JX_p (hJ : JX M V m al N pa own sd ps sn pu rf tm tk pb as nb Lb LA dn KL k h lf b0 eg mn sto fa Z ev oth tn Y) (hN : 12 + N ≤ 44) (hp : CPs M1 m al N pa own sd' ps' sn' pu' rf' tm' lf (eb b0 eg (12 + N)) w h') (f : FK S M M1) (hs : S 4 = false ∧ S 6 = false ∧ S 11 = false ∧ S 12 = false ∧ S 13 = false ∧ S 14 = false) (fV : FrV G5 V W) (hP : VP W m al N own sd' ps' sn' pu' rf' tm' w L' Z') (hL : L' ≤ 2 * (sumN (wnx w) N + oth')) (hO : OKw N own tm' KL k' ev' (yw Y) w) : JX M1 W m al N pa own sd' ps' sn' pu' rf' tm' tk pb as nb Lb LA dn KL k' h' lf b0 eg mn sto fa Z' ev' oth' tn (setW Y w) := by
  obtain ⟨j1, j2, j3, j4, j5, j6, j7⟩ := hJ
  obtain ⟨o1, o2, o3, o4, o5⟩ := hO
  exact ⟨CW_p j1 (wE_h3 hN j3) hp f hs, vy_p j2 fV hP hL o1 o2, fun t ht => wE_w (j3 t ht) (fun q => o5 t q ht), j4, o3, j6, fun p hp => ⟨(j7 p hp).1, o4 p hp⟩⟩
/-- time goes on -/
theorem cp_time (hC : CPs M m al N pa own sd ps sn pu rf tm lf b w h) (ht : 0 ≤ tm ∧ tm < 1000000) : CPs (sI M 19 3 (tm + 1)) m al N pa own sd ps sn pu rf (tm + 1) lf b w h ∧ FK (fun z => z == 1) M (sI M 19 3 (tm + 1)) := by
  obtain ⟨c1, c2, c3, c4, c5, c6, c7, c8, c9⟩ := hC
  have hu := c5.1
  have m19 : mo M 19 = 1 := mo_cl c2.1.1 (by decide) (by decide)
  have x : Ex (fun z => z = 19) M (sI M 19 3 (tm + 1)) := Ex.st rfl
  have f : FK (fun z => z == 1) M (sI M 19 3 (tm + 1)) := FK_ex x (fun q _ hq => by rw [hq, m19]; rfl)
  refine ⟨⟨BoC_fk f hu (by decide) c1, ?_, tbs_fk f (by decide) c3, sts_fk f (by decide) c4, PeC_fk f (by decide) c5, RqsC_fk f (by decide) c6, c7, c8, c9⟩, f⟩
  obtain ⟨hS, h1, h2, h3, h4, D, f1, f2, f3, f4, f5, f6⟩ := c2
  refine ⟨hS, fun i hi => by rw [rI_ne (by omega)]; exact h1 i hi, by rw [rI_eq rfl, w32_id (by omega) (by omega)], by rw [rI_ne (by omega)]; exact h3, by rw [rI_ne (by omega)]; exact h4, D, FlyC.ex20 x (fun q hq => by rw [hq, hS.1]; decide) ⟨f1, f2, f3, f4, f5, f6⟩⟩
theorem vp_time (h : VP V m al N own sd ps sn pu rf tm w L Z) (ht : 0 ≤ tm ∧ tm < 1000000) : VP (st2 V 156 11 (tm + 1)) m al N own sd ps sn pu rf (tm + 1) w L Z ∧ FrV (fun z => z == 1) V (st2 V 156 11 (tm + 1)) := by
  obtain ⟨h1, h2, h3, h4, h5, h6, h7, h8⟩ := h
  have f : FrV (fun z => z == 1) V (st2 V 156 11 (tm + 1)) := FrV_st rfl
  refine ⟨⟨?_, PV_frV f (by decide) h2, tabs_frV f (by decide) h3, sts_frV f (by decide) h4, rqs_frV f ⟨by decide, by decide⟩ h5, by rw [vI_ne (by decide)]; exact h6, by rw [vI_ne (by decide)]; exact h7, h8⟩, f⟩
  obtain ⟨a1, a2, a3, a4, a5, a6, o, o1, o2, o3, o4⟩ := h1
  have ne : ∀ a i, a ≠ 156 → vI (st2 V 156 11 (tm + 1)) a i = vI V a i := fun a i z => vI_ne (fun e => z e.1)
  refine ⟨fun i hi => by rw [ne 162 i (by decide)]; exact a1 i hi, by rw [vI_eq rfl, w32_id (by omega) (by omega)], by rw [vI_ne (by decide)]; exact a3, by rw [vI_ne (by decide)]; exact a4, by rw [vI_ne (by decide)]; exact a5, a6, o, o1, o2, fun i hi => ?_, fun i j hij hj => ?_⟩
  · obtain ⟨⟨s1, s2, s3, s4, s5, s6⟩, q1, q2⟩ := o3 i hi
    exact ⟨⟨by rw [ne 182 _ (by decide)]; exact s1, by rw [ne 183 _ (by decide)]; exact s2, by rw [ne 184 _ (by decide)]; exact s3, by rw [ne 186 _ (by decide)]; exact s4, s5, fun i hi => by rw [ne 187 _ (by decide)]; exact s6 i hi⟩, by rw [ne 185 _ (by decide)]; exact q1, by rw [ne 185 _ (by decide)]; exact q2⟩
  · rw [ne 185 _ (by decide), ne 185 _ (by decide)]; exact o4 i j hij hj
theorem j_time (hJ : JD M V m al N pa own sd ps sn pu rf tm tk pb as nb Lb LA dn KL k K nS B Y) (hN : 12 + N ≤ 44) (ht : tm < 1000000) : JD (sI M 19 3 (tm + 1)) (st2 V 156 11 (tm + 1)) m al N pa own sd ps sn pu rf (tm + 1) tk pb as nb Lb LA dn KL 400 K nS B Y ∧ FK (fun z => z == 1) M (sI M 19 3 (tm + 1)) ∧ FrV (fun z => z == 1) V (st2 V 156 11 (tm + 1)) := by
  obtain ⟨h, lf, b0, eg, mn, sto, fa, Z, ev, oth, tn, hJ, hCT⟩ := hJ
  obtain ⟨j1, j2, j3, j4, j5, j6, j7⟩ := id hJ
  obtain ⟨L, hP, hL⟩ := j2.1
  have t0 := j2.2.1.2.1
  obtain ⟨a1, a2⟩ := cp_time j1.1.1.1 ⟨t0.1, ht⟩
  obtain ⟨b1, b2⟩ := vp_time hP ⟨t0.1, ht⟩
  have due : dueN (tm + 1) (wfl (yw Y)) ≤ 400 := by
    have := List.length_filter_le (fun d : Dg => decide (d.2.2.1 ≤ tm + 1)) (wfl (yw Y))
    have := hP.1.2.2.2.2.2.1
    unfold dueN
    omega
  have o : OKw N own (tm + 1) KL 400 ev (yw Y) (yw Y) := ⟨⟨j2.2.1.1, by omega, j2.2.1.2.2⟩, j2.2.2.1, ⟨j5.1, j5.2.1, due, j5.2.2.2⟩, fun q hq => (j7 q hq).2, fun _ _ _ => rfl⟩
  exact ⟨⟨h, lf, b0, eg, mn, sto, fa, Z, ev, oth, tn, JX_p hJ hN a1 a2 (by decide) (FrV.mono b2 (fun z hz => by rw [beq_iff_eq.mp hz]; rfl)) b1 hL o, hCT⟩, a2, b2⟩
/-- times of a peer -/
theorem cp_rf (hC : CPs M m al N pa own sd ps sn pu rf tm lf b w h) (hp : p < N) (hs : sn p ≤ tm) : CPs (sI M (pa p) 18 tm) m al N pa own sd ps sn pu (fup rf p tm) tm lf b w h ∧ FK (fun z => z == 5) M (sI M (pa p) 18 tm) := by
  obtain ⟨c1, c2, c3, c4, c5, c6, c7, c8, c9⟩ := hC
  have hu := c5.1
  have f : FK (fun z => z == 5) M (sI M (pa p) 18 tm) := pe_fk c5 hp rfl
  have wt : w32 tm = tm := by rw [← c2.2.2.1]; exact w32_rI
  have wd := pe_word (k := 18) (v := tm) c5 hp (by decide)
  refine ⟨⟨BoC_fk f hu (by decide) c1, NetRep_fk f hu (by decide) c2, tbs_fk f (by decide) c3, sts_fk f (by decide) c4, ⟨f.un hu, c5.2.1, fun q hq => ?_⟩, rqs_word c6 hp (by decide), c7, c8, c9⟩, f⟩
  obtain ⟨h1, h2, h3, h4, h5, h6, ⟨t1, t2, t3, t4, t5⟩, h7, h8⟩ := c5.2.2 q hq
  obtain ⟨w1, w2, w3, w4⟩ := wd q hq
  refine ⟨w1, w2, w3, by rw [w4 _ (by omega)]; exact h4, by rw [w4 _ (by omega)]; exact h5, by rw [w4 _ (by omega)]; exact h6, ⟨by rw [w4 _ (by omega)]; exact t1, by rw [w4 _ (by omega)]; exact t2, by rw [w4 _ (by omega)]; exact t3, by rw [w4 _ (by omega)]; exact t4, by rw [w4 _ (by omega)]; exact t5⟩, by rw [w4 _ (by omega)]; exact h7, ?_⟩
  by_cases c : q = p
  · rw [c, rI_eq rfl, wt, fup_eq]; omega
  · rw [w4 _ (fun z => c z.1), fup_ne c]; exact h8
theorem cp_pu (hC : CPs M m al N pa own sd ps sn pu rf tm lf b w h) (hp : p < N) (hs : sn p ≤ tm) : CPs (sI M (pa p) 17 tm) m al N pa own sd ps sn (fup pu p tm) rf tm lf b w h ∧ FK (fun z => z == 5) M (sI M (pa p) 17 tm) := by
  obtain ⟨c1, c2, c3, c4, c5, c6, c7, c8, c9⟩ := hC
  have hu := c5.1
  have f : FK (fun z => z == 5) M (sI M (pa p) 17 tm) := pe_fk c5 hp rfl
  have wt : w32 tm = tm := by rw [← c2.2.2.1]; exact w32_rI
  have wd := pe_word (k := 17) (v := tm) c5 hp (by decide)
  refine ⟨⟨BoC_fk f hu (by decide) c1, NetRep_fk f hu (by decide) c2, tbs_fk f (by decide) c3, sts_fk f (by decide) c4, ⟨f.un hu, c5.2.1, fun q hq => ?_⟩, rqs_word c6 hp (by decide), c7, c8, c9⟩, f⟩
  obtain ⟨h1, h2, h3, h4, h5, h6, ⟨t1, t2, t3, t4, t5⟩, h7, h8⟩ := c5.2.2 q hq
  obtain ⟨w1, w2, w3, w4⟩ := wd q hq
  refine ⟨w1, w2, w3, by rw [w4 _ (by omega)]; exact h4, by rw [w4 _ (by omega)]; exact h5, by rw [w4 _ (by omega)]; exact h6, ⟨by rw [w4 _ (by omega)]; exact t1, by rw [w4 _ (by omega)]; exact t2, by rw [w4 _ (by omega)]; exact t3, by rw [w4 _ (by omega)]; exact t4, by rw [w4 _ (by omega)]; exact t5⟩, ?_, by rw [w4 _ (by omega)]; exact h8⟩
  by_cases c : q = p
  · rw [c, rI_eq rfl, wt, fup_eq]; omega
  · rw [w4 _ (fun z => c z.1), fup_ne c]; exact h7
theorem vp_rf (h : VP V m al N own sd ps sn pu rf tm w L Z) (hp : p < 32) : VP (st2 V 170 p tm) m al N own sd ps sn pu (fup rf p tm) tm w L Z ∧ FrV (fun z => z == 5) V (st2 V 170 p tm) := by
  obtain ⟨h1, h2, h3, h4, h5, h6, h7, h8⟩ := h
  have f : FrV (fun z => z == 5) V (st2 V 170 p tm) := FrV_st rfl
  have wt : w32 tm = tm := by rw [← h1.2.1]; exact w32_vI
  refine ⟨⟨VNet_fr f (by decide) h1, ?_, tabs_frV f (by decide) h3, sts_frV f (by decide) h4, rqs_ag h5 (fun a i z => vI_ne (by omega)), by rw [vI_ne (by omega)]; exact h6, by rw [vI_ne (by omega)]; exact h7, h8⟩, f⟩
  obtain ⟨a1, a2, a3, a4⟩ := h2
  refine ⟨by rw [vI_ne (by omega)]; exact a1, a2, fun q hq => ?_, fun i hi => by rw [vI_ne (by omega)]; exact a4 i hi⟩
  obtain ⟨b1, b2, b3, b4, b5, b6⟩ := a3 q hq
  refine ⟨by rw [gk_st2 (by decide)]; exact b1, by rw [vI_ne (by omega)]; exact b2, by rw [vI_ne (by omega)]; exact b3, by rw [vI_ne (by omega)]; exact b4, by rw [vI_ne (by omega)]; exact b5, ?_⟩
  by_cases c : q = p
  · rw [c, vI_eq rfl, wt, fup_eq]
  · rw [vI_ne (fun z => c z.2), fup_ne c]; exact b6
theorem vp_pu (h : VP V m al N own sd ps sn pu rf tm w L Z) (hp : p < 32) : VP (st2 V 169 p tm) m al N own sd ps sn (fup pu p tm) rf tm w L Z ∧ FrV (fun z => z == 5) V (st2 V 169 p tm) := by
  obtain ⟨h1, h2, h3, h4, h5, h6, h7, h8⟩ := h
  have f : FrV (fun z => z == 5) V (st2 V 169 p tm) := FrV_st rfl
  have wt : w32 tm = tm := by rw [← h1.2.1]; exact w32_vI
  refine ⟨⟨VNet_fr f (by decide) h1, ?_, tabs_frV f (by decide) h3, sts_frV f (by decide) h4, rqs_ag h5 (fun a i z => vI_ne (by omega)), by rw [vI_ne (by omega)]; exact h6, by rw [vI_ne (by omega)]; exact h7, h8⟩, f⟩
  obtain ⟨a1, a2, a3, a4⟩ := h2
  refine ⟨by rw [vI_ne (by omega)]; exact a1, a2, fun q hq => ?_, fun i hi => by rw [vI_ne (by omega)]; exact a4 i hi⟩
  obtain ⟨b1, b2, b3, b4, b5, b6⟩ := a3 q hq
  refine ⟨by rw [gk_st2 (by decide)]; exact b1, by rw [vI_ne (by omega)]; exact b2, by rw [vI_ne (by omega)]; exact b3, by rw [vI_ne (by omega)]; exact b4, ?_, by rw [vI_ne (by omega)]; exact b6⟩
  by_cases c : q = p
  · rw [c, vI_eq rfl, wt, fup_eq]
  · rw [vI_ne (fun z => c z.2), fup_ne c]; exact b5
theorem j_rf (hJ : JX M V m al N pa own sd ps sn pu rf tm tk pb as nb Lb LA dn KL k h lf b0 eg mn sto fa Z ev oth tn Y) (hN : 12 + N ≤ 44) (hp : p < N) (hs : sn p ≤ tm) : JX (sI M (pa p) 18 tm) (st2 V 170 p tm) m al N pa own sd ps sn pu (fup rf p tm) tm tk pb as nb Lb LA dn KL k h lf b0 eg mn sto fa Z ev oth tn Y ∧ FK (fun z => z == 5) M (sI M (pa p) 18 tm) ∧ FrV (fun z => z == 5) V (st2 V 170 p tm) := by
  obtain ⟨j1, j2, j3, j4, j5, j6, j7⟩ := id hJ
  obtain ⟨L, hP, hL⟩ := j2.1
  obtain ⟨a1, a2⟩ := cp_rf j1.1.1.1 hp hs
  obtain ⟨b1, b2⟩ := vp_rf (p := p) hP (by omega)
  have o : OKw N own tm KL k ev (yw Y) (yw Y) := ⟨j2.2.1, j2.2.2.1, j5, fun q hq => (j7 q hq).2, fun _ _ _ => rfl⟩
  exact ⟨JX_p hJ hN a1 a2 (by decide) (FrV.mono b2 G5_5) b1 hL o, a2, b2⟩
end JPAR
