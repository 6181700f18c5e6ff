/-! a datagram is taken from the net, both sides -/
def setF (w : Wd) (fl : List Dg) : Wd := (wst w, wlo w, fl, wtl w, wnx w, wQ w, wT w, wS w)
/-- cells of the reference that only the calls from outside touch, and what counts deliveries -/
def XO (a i : Nat) : Prop := a = 157 ∨ a = 158 ∨ a = 163 ∨ a = 164 ∨ (a = 156 ∧ (i = 4 ∨ i = 142))
section JTAKE1
variable {S : Nat → Bool} {M M1 : MM} {V V' V2 W : VV} {m al N p t nb oth Z L k n s K K' q i j : Nat} {pa tk : Nat → Nat} {own : Nat → Ky} {sd ps sn pu rf : Nat → Int} {tm : Int} {lf : Nat → Nat} {b b0 B : Nat × Nat} {h h' : Gh} {eg : EG} {pb as : Nat → Option Nat} {mn sto : Nat → Int} {fa : Nat → Nat} {Y Y0 Y1 Y' : Ys} {Lb : Nat → List Trm} {LA : Nat → List Nat} {dn : Nat → Int} {ev tn nS : Nat → Nat} {w w' : Wd} {KL : List Ky} {x : Dg} {fl : List Dg}
theorem cp_take (hC : CPs M m al N pa own sd ps sn pu rf tm lf b w h) (hf : wfl w = x :: fl) : ∃ M' d, f_X7_take ((19 : Nat) : Int) M = some (((d : Nat) : Int), M') ∧ CPs M' m al N pa own sd ps sn pu rf tm lf b (setF w fl) h ∧ (kd M' d).1 = 25 ∧ rI M' d 0 = x.1 ∧ rI M' d 1 = x.2.1 ∧ PkC M' 22 x.2.2.2 ∧ (mo M' 22 = 9 ∧ mo M' 23 = 9) ∧ FK m19 M M' := by
  obtain ⟨c1, c2, c3, c4, c5, c6, c7, c8, c9⟩ := hC
  rw [hf] at c2
  have hu := c5.1
  obtain ⟨M', d, a1, a2, a3, a4, a5, a6, a7, a8, a9⟩ := e_take c2
  have f : FK m19 M M' := FK_fr a7
  refine ⟨M', d, a1, ⟨BoC_fk f hu (by decide) c1, a2, tbs_fk f (by decide) c3, sts_fk f (by decide) c4, PeC_fk f (by decide) c5, RqsC_fk f (by decide) c6, c7, ?_, c9⟩, by rw [a3.1], a4, a5, a6, ?_, f⟩
  · rw [a8, a9]; exact c8
  · exact ⟨mo_cl a2.1.2.2.2.2.2.2.1 (by decide) (by decide), mo_kw (q := 22) a6.1.2.2 (Or.inr (Or.inl rfl)) a2.1.2.2.2.2.2.2.1 (by decide) (by decide)⟩
theorem OrdV_fr {o : Nat → Nat} (f : FrV S V W) (hs : S 1 = false) (ho : OrdV V o fl L) : OrdV W o fl L := by
  obtain ⟨o1, o2, o3, o4⟩ := ho
  have e : ∀ z, vI W 185 z = vI V 185 z := fun z => fv f hs
  exact ⟨o1, o2, fun i hi => ⟨SlV_fr f hs (o3 i hi).1, by rw [e]; exact (o3 i hi).2.1, by rw [e]; exact (o3 i hi).2.2⟩, fun i j hij hj => by rw [e, e]; exact o4 i j hij hj⟩
theorem vp_take {Z : Nat} (h : VP V m al N own sd ps sn pu rf tm w L Z) (hf : wfl w = x :: fl) (hd : x.2.2.1 ≤ tm) : ∃ (o : Nat) (V1 V2 : VV), o < 400 ∧ f_X16_nextDue V = some (o : Int) ∧ vI V 183 o = x.2.1 ∧ vI V 182 o = x.1 ∧ f_X16_takeIn (o : Int) V = some V1 ∧ f_X16_land (o : Int) V1 = some V2 ∧ VP V2 m al N own sd ps sn pu rf tm (setF w fl) L Z ∧ InV V2 x.2.2.2 ∧ FrV m19 V V2 := by
  obtain ⟨h1, h2, h3, h4, h5, h6, h7, h8⟩ := h
  rw [hf] at h1
  obtain ⟨o, ho⟩ := h1.2.2.2.2.2.2
  have nd := v_nextDue h1 ho
  rw [if_pos ⟨by rw [List.length_cons]; omega, hd⟩] at nd
  have o1 := ho.1 0 (by rw [List.length_cons]; omega)
  have o2 := h1.2.2.2.2.2.1
  have sl := (ho.2.2.1 0 (by rw [List.length_cons]; omega)).1
  have sl : SlV V (o 0) x := sl
  obtain ⟨V1, a1, a2, a3⟩ := v_takeIn (f := o 0) (by omega) sl
  have hn1 : VNet V1 (wst w) tm (wlo w) (x :: fl) L := VNet_fr a3 (by decide) h1
  have ho1 : OrdV V1 o (x :: fl) L := OrdV_fr a3 (by decide) ho
  obtain ⟨V2, b1, b2, b3⟩ := v_land hn1 ho1
  have f : FrV m19 V V2 := FrV.trans (FrV.mono a3 (fun z hz => by unfold m9 at hz; rw [beq_iff_eq.mp hz]; rfl)) (FrV.mono b3 (fun z hz => by unfold m1 at hz; rw [beq_iff_eq.mp hz]; rfl))
  refine ⟨o 0, V1, V2, by omega, nd, sl.2.1, sl.1, a1, b1, ⟨b2, PV_frV f (by decide) h2, tabs_frV f (by decide) h3, sts_frV f (by decide) h4, rqs_frV f ⟨by decide, by decide⟩ h5, by rw [fv f (show m19 (mv 156 0) = false from rfl)]; exact h6, by rw [fv f (show m19 (mv 156 1) = false from rfl)]; exact h7, h8⟩, InV_ag a2 (fun a i z => ?_), f⟩
  rcases z with z | ⟨z1, z2⟩
  · rw [z]; exact fv b3 rfl
  · rw [z1, z2]; exact fv b3 rfl
theorem due_cons (hd : x.2.2.1 ≤ tm) : dueN tm (x :: fl) = dueN tm fl + 1 := by
  unfold dueN
  rw [List.filter_cons, if_pos (decide_eq_true hd)]
  rfl
theorem j_take1 (hJ : JX M V m al N pa own sd ps sn pu rf tm tk pb as nb Lb LA dn KL k h lf b0 eg mn sto fa Z ev oth tn Y) (hN : 12 + N ≤ 44) (hf : wfl (yw Y) = x :: fl) (hd : x.2.2.1 ≤ tm) :
    ∃ (M' : MM) (d k' o : Nat) (V1 V2 : VV), k = k' + 1 ∧ o < 400 ∧ f_X7_take ((19 : Nat) : Int) M = some (((d : Nat) : Int), M') ∧ ((kd M' d).1 = 25 ∧ rI M' d 0 = x.1 ∧ rI M' d 1 = x.2.1 ∧ PkC M' 22 x.2.2.2 ∧ (mo M' 22 = 9 ∧ mo M' 23 = 9)) ∧ (f_X16_nextDue V = some (o : Int) ∧ vI V 183 o = x.2.1 ∧ vI V 182 o = x.1 ∧ f_X16_takeIn (o : Int) V = some V1 ∧ f_X16_land (o : Int) V1 = some V2 ∧ InV V2 x.2.2.2) ∧ JX M' V2 m al N pa own sd ps sn pu rf tm tk pb as nb Lb LA dn KL k' h lf b0 eg mn sto fa Z ev oth tn (setW Y (setF (yw Y) fl)) ∧ okD KL x ∧ FK m19 M M' ∧ FrV m19 V V2 := by
  obtain ⟨j1, j2, j3, j4, j5, j6, j7⟩ := id hJ
  obtain ⟨L, hP, hL⟩ := j2.1
  have due := j5.2.2.1
  rw [hf, due_cons hd] at due
  obtain ⟨k', rfl⟩ : ∃ k', k = k' + 1 := ⟨k - 1, by omega⟩
  obtain ⟨M', d, a1, a2, a3, a4, a5, a6, a7, a8⟩ := cp_take j1.1.1.1 hf
  obtain ⟨o, V1, V2, b0', b1, b2, b3, b4, b5, b6, b7, b8⟩ := vp_take hP hf hd
  have ok : okD KL x := j5.2.1 x (by rw [hf]; exact List.mem_cons_self ..)
  have o : OKw N own tm KL k' ev (yw Y) (setF (yw Y) fl) := ⟨j2.2.1, j2.2.2.1, ⟨j5.1, fun z hz => j5.2.1 z (by rw [hf]; exact List.mem_cons_of_mem _ hz), by show dueN tm fl ≤ k'; omega, j5.2.2.2.1, rfl⟩, fun q hq => (j7 q hq).2, fun _ _ _ => rfl⟩
  exact ⟨M', d, k', _, V1, V2, rfl, b0', a1, ⟨a3, a4, a5, a6, a7⟩, ⟨b1, b2, b3, b4, b5, b7⟩, JX_w hJ hN a2 a8 (by decide) (FrV.mono b8 (fun z hz => by unfold m19 at hz; unfold G5; simp only [Bool.or_eq_true, beq_iff_eq] at hz ⊢; omega)) b6 hL o, ok, a8, b8⟩
/-- cells that the state does not speak of -/
theorem vy_x (h : VY V m al N own sd ps sn pu rf tm Lb oth Z ev tn Y) (f : FrS XO V W) : VY W m al N own sd ps sn pu rf tm Lb oth Z ev tn Y := by
  obtain ⟨⟨L, hP, hL⟩, h2, h3, h4, h5, h6, h7, h8⟩ := h
  have g : FrV (fun z => z == 8) V W := fun a i z => f a i (fun q => by
    unfold XO at q
    rcases q with q | q | q | q | ⟨q, q2 | q2⟩
    · rw [q] at z; exact absurd z (by rw [show mv 157 i = 8 from rfl]; decide)
    · rw [q] at z; exact absurd z (by rw [show mv 158 i = 8 from rfl]; decide)
    · rw [q] at z; exact absurd z (by rw [show mv 163 i = 8 from rfl]; decide)
    · rw [q] at z; exact absurd z (by rw [show mv 164 i = 8 from rfl]; decide)
    · rw [q, q2] at z; exact absurd z (by decide)
    · rw [q, q2] at z; exact absurd z (by decide))
  obtain ⟨p1, p2, p3, p4, p5, p6, p7, p8⟩ := hP
  refine ⟨⟨L, ⟨VNet_fr g (by decide) p1, PV_frV g (by decide) p2, tabs_frV g (by decide) p3, sts_frV g (by decide) p4, rqs_frV g ⟨by decide, by decide⟩ p5, by rw [f.vI (by unfold XO; omega)]; exact p6, by rw [f.vI (by unfold XO; omega)]; exact p7, p8⟩, hL⟩, h2, h3, LksV_ag h4 (fun a i z => f.vI (by unfold XO; omega)), sc_ag h5 (fun a i z => f.vI (by unfold XO; unfold scA at z; omega)), QsV_ag h6 (fun a i z => f.vI (by unfold XO; omega)), LbV_ag h7 (fun a i z => f.vI (by unfold XO; omega)), TmV_ag h8 (fun a i z => f.vI (by unfold XO; omega)) (fun t _ z1 z2 => ⟨⟨z1, z2⟩, rfl, rfl, rfl⟩)⟩
theorem JX_x (hJ : JX M V m al N pa own sd ps sn pu rf tm tk pb as nb Lb LA dn KL k h lf b0 eg mn sto fa Z ev oth tn Y) (f : FrS XO V W) : JX M W m al N pa own sd ps sn pu rf tm tk pb as nb Lb LA dn KL k h lf b0 eg mn sto fa Z ev oth tn Y := ⟨hJ.1, vy_x hJ.2.1 f, hJ.2.2⟩
end JTAKE1
