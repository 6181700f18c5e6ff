/-! a tick, both sides -/
section JTICK
variable {S : Nat → Bool} {M M1 : MM} {V V1 W sc : VV} {m al N p t t' nb k K : Nat} {pa tk : Nat → Nat} {own : Nat → Ky} {sd ps sn pu rf : Nat → Int} {tm : Int} {B : Nat × Nat} {pb as : Nat → Option Nat} {Y : Ys} {Lb : Nat → List Trm} {LA : Nat → List Nat} {dn : Nat → Int} {nS : Nat → Nat} {KL : List Ky}
theorem FG_E (z : Nat) (h : FE z = true) : FG z = true := by unfold FG; rw [h]; rfl
theorem j_tick (hJ : JD M V m al N pa own sd ps sn pu rf tm tk pb as nb Lb LA dn KL k K nS B Y) (hX : X0 M) (hN : 12 + N ≤ 44) (hal : al ≤ 8) (htm : tm < 1000000) (hK : K + 1680 ≤ 129999999) (hnS : ∀ t, t < 44 → nS t + 1 ≤ 70000) (hs : ∀ p, p < N → sn p ≤ tm) (hD : DnV V N dn) (h142 : 0 ≤ vI V 156 142 ∧ vI V 156 142 + 401 < 2147483648) :
    ∃ (M' : MM) (V' : VV) (Y' : Ys) (pu' rf' : Nat → Int) (pb' : Nat → Option Nat) (nS' : Nat → Nat) (B' : Nat × Nat) (d : Nat), f_X1_tick ((0 : Nat) : Int) M = some ((d : Int), M') ∧ f_X16_tick V = some V' ∧ JD M' V' m al N pa own sd ps sn pu' rf' (tm + 1) tk pb' as nb Lb LA dn KL 400 (K + 1680) nS' B' Y' ∧ FK FG M M' ∧ (∀ a i, kp2 a i → V' a i = V a i) ∧ (d ≤ 400 ∧ vI V' 156 142 = vI V 156 142 + d) ∧ YT Y Y' ∧ (∀ t, (t < 12 → nS' t = nS t) ∧ nS' t ≤ nS t + 1) ∧ (B'.1 + 2 * ptN pb' (12 + N) = B.1 + 2 * ptN pb (12 + N) ∧ B'.2 + 71 * ptN pb' (12 + N) = B.2 + 71 * ptN pb (12 + N)) ∧ (DE ps (yw Y) → DE ps (yw Y')) ∧ ∀ q, (pu' q = pu q ∨ pu' q = tm + 1) ∧ (rf' q = rf q ∨ rf' q = tm + 1) := by
  have nt : rI M 19 3 = tm ∧ (kd M 19).1 = 7 ∧ w32 (V 156 11) = tm := by
    obtain ⟨h, lf, b0, eg, mn, sto, fa, Z, ev, oth, tn, hJ, hCT⟩ := hJ
    have hC := hJ.1.1.1.1
    obtain ⟨L, hP, hL⟩ := hJ.2.1.1
    exact ⟨hC.2.1.2.2.1, by rw [hC.2.1.1.1], hP.1.2.1⟩
  obtain ⟨J1, g1, g2⟩ := j_time hJ hN htm
  have hX1 : X0 (sI M 19 3 (tm + 1)) := X0_fk g1 (JD_un hJ) rfl hX
  have k1 : Kp1 V (st2 V 156 11 (tm + 1)) := Kp1_fr g2 rfl rfl
  have v1 : vI (st2 V 156 11 (tm + 1)) 156 142 = vI V 156 142 := vI_ne (by omega)
  obtain ⟨M2, V2, Y2, d, a1, a2, a3, a4, a5, a6, a7, a8, aD⟩ := j_dloop hN hal (fun t ht => by have := hnS t ht; omega) 400 K 0 FU (sI M 19 3 (tm + 1)) (st2 V 156 11 (tm + 1)) Y J1 hX1 (by omega) (by unfold FU; omega) (by rw [v1]; omega)
  have hX2 : X0 M2 := X0_fk a5 (JD_un J1) rfl hX1
  have hD2 : DnV V2 N dn := fun p hp => by
    obtain ⟨lim, b1, b2, b3⟩ := hD p hp
    refine ⟨lim, b1, b2, ?_⟩
    rw [← b3]
    show w32 _ = w32 _
    rw [a6 173 p (by unfold kp2; omega), k1 173 p (by unfold kp1; omega)]
  obtain ⟨M3, V3, Y3, pu3, rf3, pb3, nS3, B3, c1, c2, c3, c4, c5, c6, c7, c8, cD, cT⟩ := j_ploop (sn := sn) (ps := ps) hN hal (fun p hp => by have := hs p hp; omega) N 0 (K + 400) FU M2 V2 Y2 pu rf pb nS B (by omega) (by unfold FU; omega) a4 hX2 hD2 (by omega) (fun t ht => by have := hnS t ht; exact ⟨by omega, fun _ => by omega⟩) ((0 + d : Nat) : Int)
  refine ⟨M3, V3, Y3, pu3, rf3, pb3, nS3, B3, d, ?_, ?_, JD_K c3 (by omega), ((g1.mono (fun z hz => by rw [beq_iff_eq.mp hz]; rfl)).trans a5).trans (c4.mono FG_E), fun a i z => ((c5 a i (kp2_1 z)).trans (a6 a i z)).trans (k1 a i (kp2_1 z)), ⟨a1, ?_⟩, (YT_r a8).trans c6, fun t => ⟨fun z => (c7 t).1 (by omega), (c7 t).2⟩, c8, fun z => cD (aD z), cT⟩
  · unfold f_X1_tick
    rw [gfr_e hX.1, Option.bind_some, hX.2.2, gfi_e nt.2.1, Option.bind_some, nt.1, pfi_e nt.2.1, Option.bind_some]
    refine a2.trans ?_
    refine c1.trans ?_
    rw [Nat.zero_add]
  · unfold f_X16_tick
    rw [p2_e, Option.bind_some, nt.2.2]
    refine a3.trans ?_
    exact c2
  · have : vI V3 156 142 = vI V2 156 142 := by show w32 _ = w32 _; rw [c5 156 142 (by unfold kp1; omega)]
    rw [this, a7, v1]
end JTICK
