/-! background works of a peer, both sides -/
section JBG
variable {S : Nat → Bool} {M M1 : MM} {V V1 W sc : VV} {m al N p t t' nb nb' oth Z L k K kx n P lim : Nat} {pa tk : Nat → Nat} {own : Nat → Ky} {sd ps sn pu rf : Nat → Int} {tm x kind r : Int} {lf lf0 lf' : Nat → Nat} {b b0 b0' B : Nat × Nat} {h h' : Gh} {eg : EG} {pb as : Nat → Option Nat} {mn sto : Nat → Int} {fa : Nat → Nat} {Y Yo Y1 Y' : Ys} {Lb : Nat → List Trm} {LA : Nat → List Nat} {dn : Nat → Int} {ev tn tn0 tn' nS : Nat → Nat} {KL : List Ky}
theorem j_bg (hJ : JD M V m al N pa own sd ps sn pu rf tm tk pb as nb Lb LA dn KL k K nS B Y) (hX : X0 M) (hN : 12 + N ≤ 44) (hal : al ≤ 8) (hK : K ≤ 130000000) (hnS : nS (12 + p) ≤ 70000) (hp : p < N) (hs : sn p ≤ tm) (hD : DnV V N dn) : JV (bgC ((0 : Nat) : Int) ((pa p : Nat) : Int) M) (f_X16_background (p : Int) V) (12 + p) M V m al N pa own sd ps sn pu rf tm tk pb as nb Lb LA dn KL k K nS B Y := by
  have hJD := hJ
  obtain ⟨h, lf, b0, eg, mn, sto, fa, Z, ev, oth, tn, hJ, hCT⟩ := hJ
  have hC := hJ.1.1.1.1
  obtain ⟨L, hP, hL⟩ := hJ.2.1.1
  have pv := hP.2.1.2.2.1 p (by omega)
  have pe := hC.2.2.2.2.1.2.2 p hp
  have k17 : (kd M (pa p)).1 = 17 := by rw [pe.1.1]
  have k7 : (kd M 19).1 = 7 := by rw [hC.2.1.1.1]
  have wt : wa pa (12 + p) = pa p + 17 := by unfold wa; rw [if_neg (by omega), show 12 + p - 12 = p by omega]
  have W := (hJ.1.1.1.2.1.2.2.1 (12 + p) (by omega)).1
  have w6 : w32 (wst (yw Y) 6) = wst (yw Y) 6 := by rw [← hP.1.1 6 (by decide)]; exact w32_vI
  have v6 : l2 162 11 6 V = some (wst (yw Y) 6) := by rw [← hP.1.1 6 (by decide)]; exact l2_n (j := 6) (by decide) (by decide)
  have tmV : w32 (V 156 11) = tm := hP.1.2.1
  have lb := hJ.2.1.2.2.2.2.2.2.1 p (by omega)
  have lib := hJ.1.1.2.2.1 p hp
  have l64 : (Lb p).length ≤ 64 := lb.2.1.1
  have c6 : rI M (wa pa (12 + p)) 6 = yv Y 226 (12 + p) := (hJ.1.1.1.2.2.1 (12 + p) (by omega)).2.2.1
  have r6 : vI V 226 (12 + p) = yv Y 226 (12 + p) := hJ.2.1.2.2.2.2.1 226 (12 + p) (by unfold scA; omega)
  have refE : f_X16_background (p : Int) V = if yv Y 226 (12 + p) = 0 then (if 0 < wst (yw Y) 6 then (if 0 < (Lb p).length then (if w32 (tm - max (pu p) (sn p)) < wst (yw Y) 6 then j_X16_background_88 (p : Int) (12 + (p : Int)) V else f_X16_beginPublish ((12 + p : Nat) : Int) (p : Int) V) else j_X16_background_88 (p : Int) (12 + (p : Int)) V) else j_X16_background_88 (p : Int) (12 + (p : Int)) V) else some V := by
    have e45 : ∀ y, j_X16_background_45 (p : Int) (12 + (p : Int)) y V = if 0 < wst (yw Y) 6 then (if 0 < (Lb p).length then (if w32 (tm - y) < wst (yw Y) 6 then j_X16_background_88 (p : Int) (12 + (p : Int)) V else f_X16_beginPublish ((12 + p : Nat) : Int) (p : Int) V) else j_X16_background_88 (p : Int) (12 + (p : Int)) V) else j_X16_background_88 (p : Int) (12 + (p : Int)) V := fun y => by
      unfold j_X16_background_45
      rw [v6, Option.bind_some, Option.bind_some, w6, tmV, l2_n (by omega) (by decide), Option.bind_some, lb.1, w32_nn (by omega)]
      have fin : ∀ (o : Option VV), (o.bind fun V4 => some V4) = o := fun o => by cases o <;> rfl
      rw [fin, show (12 + (p : Int)) = ((12 + p : Nat) : Int) from by omega]
      by_cases c : 0 < (Lb p).length
      · rw [if_pos (show (0 : Int) < ((Lb p).length : Int) by omega), if_pos c]
      · rw [if_neg (show ¬ (0 : Int) < ((Lb p).length : Int) by omega), if_neg c]
    unfold f_X16_background
    rw [show (12 + (p : Int)) = ((12 + p : Nat) : Int) from by omega, l2_n (by omega) (by decide), Option.bind_some, w32_vI, r6, l2_n (by omega) (by decide), Option.bind_some, l2_n (by omega) (by decide), Option.bind_some, w32_vI, w32_vI, Option.bind_some, Option.bind_some, pv.2.2.2.1, pv.2.2.2.2.1, show ((12 + p : Nat) : Int) = 12 + (p : Int) from by omega, e45, e45]
    by_cases c : sn p < pu p
    · rw [if_pos c, show max (pu p) (sn p) = pu p by omega]; rfl
    · rw [if_neg c, show max (pu p) (sn p) = sn p by omega]; rfl
  have clsE : bgC ((0 : Nat) : Int) ((pa p : Nat) : Int) M = if yv Y 226 (12 + p) = 0 then (if 0 < wst (yw Y) 6 then (if 0 < (Lb p).length then (if w32 (tm - max (pu p) (sn p)) < wst (yw Y) 6 then j_X1_works_98 ((0 : Nat) : Int) ((pa p : Nat) : Int) (wst (yw Y) 8) M else (f_X11_publishing ((wa pa (12 + p) : Nat) : Int) M).bind fun r1 => ck 11 ((wa pa (12 + p) : Nat) : Int) r1.2 <| (f_X11_start ((wa pa (12 + p) : Nat) : Int) ((pa p : Nat) : Int) r1.1 (-1) r1.2).bind fun M3 => some M3) else j_X1_works_98 ((0 : Nat) : Int) ((pa p : Nat) : Int) (wst (yw Y) 8) M) else j_X1_works_98 ((0 : Nat) : Int) ((pa p : Nat) : Int) (wst (yw Y) 8) M) else some M := by
    unfold bgC
    rw [gfr_e k17, Option.bind_some, pe.1.2.2.1.2.2.2.2.2.2, ← wt, gfi_e W.1, Option.bind_some, w32_rI, c6, gfr_e hX.1, Option.bind_some, hX.2.2, ck_e k7, show f_X7_setting ((19 : Nat) : Int) 6 M = some (wst (yw Y) 6) from e_setting (k := 6) hC.2.1 (by decide), Option.bind_some, Option.bind_some, ck_e k7, show f_X7_setting ((19 : Nat) : Int) 8 M = some (wst (yw Y) 8) from e_setting (k := 8) hC.2.1 (by decide), Option.bind_some, w6, gfr_e k17, Option.bind_some, pe.1.2.2.1.2.2.2.2.1, gfi_e lib.1, Option.bind_some, lib.2.2.2.1, w32_nn (by omega), Option.bind_some, gfi_e k7, Option.bind_some, hC.2.1.2.2.1, gfi_e k17, Option.bind_some, pe.2.2.2.2.2.2.2.1]
    rw [Option.bind_some, Option.bind_some, ck_e W.1]
    by_cases c : 0 < (Lb p).length
    · rw [if_pos (show (0 : Int) < ((Lb p).length : Int) by omega), if_pos c]; rfl
    · rw [if_neg (show ¬ (0 : Int) < ((Lb p).length : Int) by omega), if_neg c]
  rw [refE, clsE]
  by_cases c0 : yv Y 226 (12 + p) = 0
  · rw [if_pos c0, if_pos c0]
    have b8 := j_bg8 hJD hX hN hal hK hnS hp c0 hs
    by_cases c1 : 0 < wst (yw Y) 6
    · rw [if_pos c1, if_pos c1]
      by_cases c2 : 0 < (Lb p).length
      · rw [if_pos c2, if_pos c2]
        by_cases c3 : w32 (tm - max (pu p) (sn p)) < wst (yw Y) 6
        · rw [if_pos c3, if_pos c3]; exact b8
        · rw [if_neg c3, if_neg c3]
          obtain ⟨lim, d1, d2, d3⟩ := hD p hp
          obtain ⟨M1, pb', b0', B', P, a1, a2, a3, a4, a5, a6⟩ := j_pub (t := 12 + p) hJ hCT hN (by omega) c0
          obtain ⟨M', V', Y', e1, e2, e3, e4, e5, e6, e7⟩ := j_back2 a3 a4 hN hal hK hnS hp c0 hs a2 d2 d3 d1
          refine ⟨M', V', Y', _, rf, pb', _, B', ?_, e2, e3, (a5.mono (fun z hz => by rw [beq_iff_eq.mp hz]; rfl)).trans (e4.mono FE_11), e5, e6, nS_f (12 + p), a6, by rw [show 12 + p - 12 = p by omega]; exact e7, fun q => ⟨fup_or q, Or.inl rfl⟩⟩
          rw [a1, Option.bind_some]
          show ck 11 ((wa pa (12 + p) : Nat) : Int) M1 ((f_X11_start ((wa pa (12 + p) : Nat) : Int) ((pa p : Nat) : Int) (P : Int) (-1) M1).bind fun M3 => some M3) = some M'
          rw [ck_e (a3.1.1.1.2.1.2.2.1 (12 + p) (by omega)).1.1, e1]
          rfl
      · rw [if_neg c2, if_neg c2]; exact b8
    · rw [if_neg c1, if_neg c1]; exact b8
  · rw [if_neg c0, if_neg c0]; exact JV_id _ hJD
end JBG
