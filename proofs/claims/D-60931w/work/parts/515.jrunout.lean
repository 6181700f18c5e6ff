/-! requests that have run out, both sides -/
/-- a request with this number is overdue -/
def Pn (tm : Int) (p : Nat) (num : Int) (w : Wd) : Prop := ∃ y, y ∈ wQ w p ∧ qNum y = num ∧ qDdl y ≤ tm
section JRO
variable {S : Nat → Bool} {M M1 : MM} {V V' V2 W : VV} {m al N p t nb oth Z L k n s K K' q i j : Nat} {pa tk : Nat → Nat} {own : Nat → Ky} {sd ps sn pu rf : Nat → Int} {tm ad num num' : Int} {lf : Nat → Nat} {b0 B : Nat × Nat} {h h' : Gh} {eg : EG} {pb as : Nat → Option Nat} {mn sto : Nat → Int} {fa : Nat → Nat} {Y Y0 Y1 Y' : Ys} {Lb : Nat → List Trm} {LA : Nat → List Nat} {dn : Nat → Int} {ev tn nS : Nat → Nat} {w w' : Wd} {KL : List Ky} {key : Ky} {y x : Rq} {R : List Rq}
theorem Pn_cl : ClP (Pn tm p num) N own sd tm p t := by
  refine ⟨fun w ⟨y, a, b, c⟩ => ⟨dtQ t y, ?_, b, c⟩, fun w ad ty key bd ⟨y, a, b, c⟩ => ⟨y, askY_mem a, b, c⟩, fun w S h => h, fun w tl h => h⟩
  show dtQ t y ∈ (wQ w p).map (dtQ t)
  exact List.mem_map_of_mem a
theorem Pn_rm (hi : i < (wQ w p).length) (hn : qNum ((wQ w p).getD i q0) ≠ num') (h : Pn tm p num' w) : Pn tm p num' (loseY own (rmW w p i) p key ad) := by
  obtain ⟨y, a, b, c⟩ := h
  refine ⟨y, ?_, b, c⟩
  show y ∈ fup (wQ w) p ((wQ w p).eraseIdx i) p
  obtain ⟨e1, e2⟩ := er_split hi
  rw [fup_eq, e2]
  rw [e1] at a
  rcases List.mem_append.mp a with z | z
  · exact List.mem_append_left _ z
  · rcases List.mem_cons.mp z with z | z
    · rw [z] at b; exact absurd b hn
    · exact List.mem_append_right _ z
theorem Pn_again (hi : i < (wQ w p).length) (hn : qNum ((wQ w p).getD i q0) ≠ num') (h : Pn tm p num' w) : Pn tm p num' (againY N sd tm w p i y) := by
  obtain ⟨y', a, b, c⟩ := h
  refine ⟨y', ?_, b, c⟩
  show y' ∈ fup (wQ w) p ((wQ w p).set i (goQ y (tm + wst w 4))) p
  obtain ⟨e1, e2⟩ := set_split (y := goQ y (tm + wst w 4)) hi
  rw [fup_eq, e2]
  rw [e1] at a
  rcases List.mem_append.mp a with z | z
  · exact List.mem_append_left _ z
  · rcases List.mem_cons.mp z with z | z
    · rw [z] at b; exact absurd b hn
    · exact List.mem_append_right _ (List.mem_cons_of_mem _ z)
theorem CTR_K {Z : Nat} (h : CTR N own nb K nS B lf b0 Z ev oth tn Y) (hK : K ≤ K') : CTR N own nb K' nS B lf b0 Z ev oth tn Y := by
  obtain ⟨h1, h2, h3, h4⟩ := h
  exact ⟨fun t ht => by have := h1 t ht; omega, by omega, by omega, h4⟩
theorem JD_K (h : JD M V m al N pa own sd ps sn pu rf tm tk pb as nb Lb LA dn KL k K nS B Y) (hK : K ≤ K') : JD M V m al N pa own sd ps sn pu rf tm tk pb as nb Lb LA dn KL k K' nS B Y := by
  obtain ⟨h, lf, b0, eg, mn, sto, fa, Z, ev, oth, tn, a, b⟩ := h
  exact ⟨h, lf, b0, eg, mn, sto, fa, Z, ev, oth, tn, a, CTR_K b hK⟩
theorem SK_0 (h : SK V W) : SK (st2 V 197 s 0) W := fun r hr => by
  by_cases c : r = s
  · rw [c, vI_eq rfl] at hr; exact absurd rfl hr
  · rw [vI_ne (fun e => c e.2)] at hr ⊢
    rw [vI_ne (by omega)]
    exact h r hr
theorem PG_kp0 {a i : Nat} (h : PG a i) (z : kp0 a i) : False := by
  have m := kp0_m z
  unfold PG PO at h
  unfold kp0 at z
  rcases h with h | h | h
  · omega
  · omega
  · omega
theorem j_rostep (hJ : JD M V m al N pa own sd ps sn pu rf tm tk pb as nb Lb LA dn KL k K nS B Y) (hN : 12 + N ≤ 44) (hal : al ≤ 8) (hK : K < 130000000) (hnS : ∀ t, t < 44 → nS t ≤ 70000) (hp : p < N) (hs : s ∈ slQ V p) (hnum : vI V 198 s = num) (h46 : rI M 46 j = num) (h274 : vI V 274 j = (s : Int)) (hP : Pn tm p num (yw Y)) (hj : j < n) (hn : n ≤ 40) :
    ∃ M' V' Y', b_X17_runOut_66 ((pa p : Nat) : Int) (n : Int) (j : Int) M = cnt (((j + 1 : Nat) : Int), M') ∧ b_X16_runOut_124 (p : Int) (n : Int) (j : Int) V = cnt (((j + 1 : Nat) : Int), V') ∧ JD M' V' m al N pa own sd ps sn pu rf tm tk pb as nb Lb LA dn KL k (K + 1) nS B Y' ∧ FK FD M M' ∧ (∀ a j, kp0 a j → V' a j = V a j) ∧ SK (st2 V 197 s 0) V' ∧ YR Y Y' ∧ EQ p (yw Y) (yw Y') ∧ ∀ num', num' ≠ num → Pn tm p num' (yw Y) → Pn tm p num' (yw Y') := by
  obtain ⟨h, lf, b0, eg, mn, sto, fa, Z, ev, oth, tn, hJ, hCT⟩ := hJ
  have hB : bdg N ev oth := CTR_bdg hCT (by omega) (by omega)
  have hS : sumN ev N + oth ≤ 3 * K := hCT.2.1
  obtain ⟨j1, j2, j3, j4, j5, j6, j7⟩ := id hJ
  have hC := j1.1.1.1
  obtain ⟨c1, c2, c3, c4, c5, c6, c7, c8, c9⟩ := id hC
  have p32 : p < 32 := by omega
  obtain ⟨L0, hP0, hL0⟩ := j2.1
  have hRq := hP0.2.2.2.2.1 p p32
  have s40 : s < 1280 := by
    have := (List.mem_filter.mp hs).1
    obtain ⟨i, hi, e⟩ := rws_mem.mp this
    omega
  have u197 : vI V 197 s ≠ 0 := of_decide_eq_true (List.mem_filter.mp hs).2
  have pw := (j2.2.1.2.2.2 p hp).2.2.2.2.1
  obtain ⟨y, y1, y2, y3⟩ := hP
  have gy : gQ V s = y := num_uq pw (rq_slot hRq hs) y1 (by rw [y2]; exact hnum)
  have oky : okQ y := ((j2.2.1.2.2.2 p hp).2.2.2.2.2 _ y1).2
  have wn : w32 num = num := by rw [← hnum]; exact w32_vI
  obtain ⟨h1, h2, h3, h4, h5, h6, h7, h8, h9⟩ := c6.2.2.1 p hp
  have pe := (c5.2.2 p hp).1
  have k18 : (kd M 18).1 = 6 := by rw [c1.1.1]
  have st5 := j2.2.1.1.2.2.2.2.2.1
  have ws5 : w32 (wst (yw Y) 5) = wst (yw Y) 5 := w32_id (by omega) (by omega)
  have ws4 : w32 (qSnt y) = qSnt y := w32_id (by have := oky.2.2.2.2; omega) (by have := oky.2.2.2.2; omega)
  rcases c_findQ c6 c5 hp wn with ⟨i, i1, i2, i3, i4⟩ | ⟨i2, i3⟩
  case inr => exact absurd y2 (i3 y y1)
  have ye : y = (wQ (yw Y) p).getD i q0 := num_uq pw y1 (getD_mem i1) (by rw [i3]; exact y2)
  have rq := h9 i i1
  rw [← ye] at rq
  have kr : (kd M ((h.2.2.2.2 p).2 i)).1 = 24 := by rw [(h6 i (by omega)).2.1]
  have cls : b_X17_runOut_66 ((pa p : Nat) : Int) (n : Int) (j : Int) M = if wst (yw Y) 5 < qSnt y then (f_X17_fail ((pa p : Nat) : Int) (i : Int) M).bind fun M1 => cnt (((j + 1 : Nat) : Int), M1) else (f_X17_sendAgain ((pa p : Nat) : Int) (((h.2.2.2.2 p).2 i : Nat) : Int) M).bind fun M1 => cnt (((j + 1 : Nat) : Int), M1) := by
    unfold b_X17_runOut_66
    rw [w32_nn (by omega), w32_nn (by omega), if_pos (by omega), gfr_e h1, Option.bind_some, pe.2.2.1.1, gfr_e k18, Option.bind_some, c1.1.2.2.1.2.2.2.2.2.2.2.2.2.2.2, lai_e (k := 256) (l := 40) (j := j) c1.1.2.2.2.2.1 (by decide) (by decide) (w32_nn (by omega)) (by omega), Option.bind_some, h46, ck_e h1, i2, Option.bind_some, if_neg (by rw [w32_nn (by omega)]; show ¬ ((i : Nat) : Int) = -1; omega), gfr_e h1, Option.bind_some, pe.2.2.1.2.2.2.2.2.1, lar_n h2 (by decide) (by omega) (by decide), Option.bind_some, (h6 i (by omega)).1, gfi_e kr, Option.bind_some, Option.bind_some, gfr_e k18, Option.bind_some, c1.1.2.2.1.1, ck_e (by rw [c2.1.1]), show f_X7_setting ((19 : Nat) : Int) 5 M = some (wst (yw Y) 5) from e_setting (k := 5) c2 (by decide), Option.bind_some, rq.2.2.2.2.1, ws5, ws4, ck_e h1, Option.bind_some, lar_n h2 (by decide) (by omega) (by decide), Option.bind_some, (h6 i (by omega)).1, ck_e h1]
    rfl
  have r202 : vI V 202 s = qDdl y := by rw [← gy]; rfl
  have r203 : vI V 203 s = qSnt y := by rw [← gy]; rfl
  have ref : b_X16_runOut_124 (p : Int) (n : Int) (j : Int) V = if wst (yw Y) 5 < qSnt y then rtV p s (n : Int) (j : Int) V else (f_X16_go (p : Int) (s : Int) V).bind fun V1 => cnt (((j + 1 : Nat) : Int), V1) := by
    unfold b_X16_runOut_124
    rw [w32_nn (by omega), w32_nn (by omega), if_pos (by omega), l2_n (by omega) (by decide), Option.bind_some, h274, l2_n s40 (by decide), Option.bind_some, w32_vI, if_neg u197, l2_n s40 (by decide), Option.bind_some, w32_vI, r202, w32_w32, show w32 (V 156 11) = tm from hP0.1.2.1, if_neg (by omega), l2_n s40 (by decide), Option.bind_some, show l2 162 11 5 V = some (wst (yw Y) 5) by rw [← hP0.1.1 5 (by decide)]; exact l2_n (j := 5) (by decide) (by decide), Option.bind_some, ws5, w32_vI, r203]
    rfl
  by_cases c : wst (yw Y) 5 < qSnt y
  · obtain ⟨M', V', Y', a1, a2, a3, a4, ⟨a5, a6⟩, a7, a8⟩ := j_fail hJ hCT hN hal hK hnS hp i1 ye hs gy
    refine ⟨M', V', Y', ?_, ?_, a3, a4, a5, a6, a7, a8 _ (fun t => EQ_cl) (EQ.trans (EQ_Q (w := yw Y)) EQ_T), fun num' hne h => a8 _ (fun t => Pn_cl) (Pn_rm i1 (by rw [i3]; exact fun e => hne e.symm) h)⟩
    · rw [cls, if_pos c, a1]; rfl
    · rw [ref, if_pos c, a2]; rfl
  · obtain ⟨M', V', h', a1, a2, a3, a4, a5, a6⟩ := j_again hJ hN hB hp i1 ye hs gy (by omega)
    refine ⟨M', V', _, ?_, ?_, ⟨h', lf, b0, eg, mn, sto, fa, Z, ev, oth + 1, tn, a3, CTR_w hCT (by omega) (by omega) (by omega)⟩, a4.mono (fun z hz => by unfold FD; simp only [Bool.or_eq_true, beq_iff_eq] at hz ⊢; omega), fun a j z => a5 a j (fun q => PG_kp0 q z), SK_0 a6, .refl, EQ_Q (w := yw Y), fun num' hne h => Pn_again i1 (by rw [i3]; exact fun e => hne e.symm) h⟩
    · rw [cls, if_neg c, a1]; rfl
    · rw [ref, if_neg c, a2]; rfl
def FE : Nat → Bool := fun z => FD z || z == 15
/-- what both sides have after a while -/
def JT (r : Option MM) (r2 : Option VV) (M : MM) (V : VV) (m al N : Nat) (pa : Nat → Nat) (own : Nat → Ky) (sd ps sn pu rf : Nat → Int) (tm : Int) (tk : Nat → Nat) (pb as : Nat → Option Nat) (nb : Nat) (Lb : Nat → List Trm) (LA : Nat → List Nat) (dn : Nat → Int) (KL : List Ky) (k K : Nat) (nS : Nat → Nat) (B : Nat × Nat) (Y : Ys) (pp : Nat) : Prop :=
  ∃ M' V' Y', r = some M' ∧ r2 = some V' ∧ JD M' V' m al N pa own sd ps sn pu rf tm tk pb as nb Lb LA dn KL k K nS B Y' ∧ FK FE M M' ∧ Kp1 V V' ∧ YR Y Y' ∧ EQ pp (yw Y) (yw Y')
theorem JD_46 (hJ : JD M V m al N pa own sd ps sn pu rf tm tk pb as nb Lb LA dn KL k K nS B Y) (f : FK FD M M1) (x : Nat) : rI M1 46 x = rI M 46 x := by
  obtain ⟨h, lf, b0, eg, mn, sto, fa, Z, ev, oth, tn, hJ, hCT⟩ := hJ
  have hC := hJ.1.1.1.1
  exact f.rI (hC.2.2.2.2.1.1.lt (by rw [hC.1.1.2.2.2.2.1]; decide)) (by rw [(BdS_mo hC.1.1).2.2.1]; rfl) x
theorem j_roloop {SL : List Nat} {nm : Nat → Int} (hN : 12 + N ≤ 44) (hal : al ≤ 8) (hnS : ∀ t, t < 44 → nS t ≤ 70000) (hp : p < N) (hn : SL.length = n) (hn4 : n ≤ 40) (hap : ∀ x x', x < x' → x' < n → nm x ≠ nm x') : ∀ (d j K fu : Nat) (M : MM) (V : VV) (Y : Ys), d + j = n → d < fu → JD M V m al N pa own sd ps sn pu rf tm tk pb as nb Lb LA dn KL k K nS B Y → K + d ≤ 130000000 → (∀ x, x < n → rI M 46 x = nm x) → ArrN V 274 SL → (∀ x, j ≤ x → x < n → SL.getD x 0 ∈ slQ V p ∧ vI V 198 (SL.getD x 0) = nm x ∧ Pn tm p (nm x) (yw Y)) →
    ∃ M' V' Y', lpN (fun s : Int × MM => b_X17_runOut_66 ((pa p : Nat) : Int) (n : Int) s.1 s.2) fu ((j : Int), M) = some M' ∧ lpN (fun s : Int × VV => b_X16_runOut_124 (p : Int) (n : Int) s.1 s.2) fu ((j : Int), V) = some V' ∧ JD M' V' m al N pa own sd ps sn pu rf tm tk pb as nb Lb LA dn KL k (K + d) nS B Y' ∧ FK FD M M' ∧ (∀ a j, kp0 a j → V' a j = V a j) ∧ YR Y Y' ∧ EQ p (yw Y) (yw Y') := by
  intro d
  induction d with
  | zero =>
    intro j K fu M V Y hd hf hJ hK h46 h274 hx
    have : j = n := by omega
    subst this
    refine ⟨M, V, Y, lpN_end (b := fun s : Int × MM => b_X17_runOut_66 ((pa p : Nat) : Int) (j : Int) s.1 s.2) (by omega) ?_, lpN_end (b := fun s : Int × VV => b_X16_runOut_124 (p : Int) (j : Int) s.1 s.2) (by omega) ?_, hJ, .refl, fun _ _ _ => rfl, .refl, .refl⟩
    · dsimp only
      unfold b_X17_runOut_66
      rw [if_neg (by omega)]
    · dsimp only
      unfold b_X16_runOut_124
      rw [if_neg (by omega)]
  | succ d ih =>
    intro j K fu M V Y hd hf hJ hK h46 h274 hx
    obtain ⟨f, rfl⟩ : ∃ f, fu = f + 1 := ⟨fu - 1, by omega⟩
    obtain ⟨x1, x2, x3⟩ := hx j (Nat.le_refl _) (by omega)
    obtain ⟨M1, V1, Y1, a1, a2, a3, a4, a5, a6, a7, aE, a8⟩ := j_rostep (j := j) (n := n) hJ hN hal (by omega) hnS hp x1 x2 (h46 j (by omega)) (h274 j (by omega)) x3 (by omega) hn4
    obtain ⟨M2, V2, Y2, b1, b2, b3, b4, b5, b6, b7⟩ := ih (j + 1) (K + 1) f M1 V1 Y1 (by omega) (by omega) a3 (by omega) (fun x hx => by rw [JD_46 hJ a4]; exact h46 x hx) (fun x hx => by
      show w32 (V1 274 x) = _
      rw [a5 274 x (by unfold kp0; omega)]
      exact h274 x hx) (fun x hx1 hx2 => by
      obtain ⟨y1, y2, y3⟩ := hx x (by omega) hx2
      have ne := hap j x (by omega) hx2
      have sne : SL.getD x 0 ≠ SL.getD j 0 := fun e => by rw [e, x2] at y2; exact ne y2
      have u : vI (st2 V 197 (SL.getD j 0) 0) 197 (SL.getD x 0) ≠ 0 := by rw [vI_ne (fun e => sne e.2)]; exact of_decide_eq_true (List.mem_filter.mp y1).2
      have sk := a6 _ u
      refine ⟨List.mem_filter.mpr ⟨(List.mem_filter.mp y1).1, by rw [sk.1]; exact decide_eq_true u⟩, ?_, a8 _ (fun e => ne e.symm) y3⟩
      rw [sk.2, vI_ne (by omega)]; exact y2)
    refine ⟨M2, V2, Y2, ?_, ?_, ?_, a4.trans b4, fun a j z => (b5 a j z).trans (a5 a j z), a7.trans b6, aE.trans b7⟩
    · exact (lpN_cnt (b := fun s : Int × MM => b_X17_runOut_66 ((pa p : Nat) : Int) (n : Int) s.1 s.2) (s := ((j : Int), M)) a1).trans b1
    · exact (lpN_cnt (b := fun s : Int × VV => b_X16_runOut_124 (p : Int) (n : Int) s.1 s.2) (s := ((j : Int), V)) a2).trans b2
    · rw [show K + (d + 1) = K + 1 + d by omega]; exact b3
theorem j_runOut (hJ : JD M V m al N pa own sd ps sn pu rf tm tk pb as nb Lb LA dn KL k K nS B Y) (hN : 12 + N ≤ 44) (hal : al ≤ 8) (hK : K + 40 ≤ 130000000) (hnS : ∀ t, t < 44 → nS t ≤ 70000) (hp : p < N) :
    JT (f_X17_runOut ((pa p : Nat) : Int) M) (f_X16_runOut (p : Int) V) M V m al N pa own sd ps sn pu rf tm tk pb as nb Lb LA dn KL k (K + 40) nS B Y p := by
  obtain ⟨h, lf, b0, eg, mn, sto, fa, Z, ev, oth, tn, hJ, hCT⟩ := hJ
  obtain ⟨L0, hP0, hL0⟩ := hJ.2.1.1
  have hRq := hP0.2.2.2.2.1 p (by omega)
  obtain ⟨V1, SL, a1, a2, a3, a4, a5, a6⟩ := v_gather hRq (by omega) hP0.1.2.1
  obtain ⟨M1, b1, b2, b3, b4⟩ := c_gather hJ.1.1.1.1 hp (hJ.2.1.2.2.1 p hp).2.2
  have fV : FrV (fun z => z == 9) V V1 := fun a i z => a2 a (fun e => by rw [e, show mv 274 i = 9 from rfl] at z; cases z) i
  have hJ1 := JX_s hJ hN b2 b4 (by decide) fV
  have len : (ovQ tm (wQ (yw Y) p)).length = SL.length := by rw [← a6, List.length_map]
  have ge : ∀ r, vI V1 197 r = vI V 197 r ∧ vI V1 198 r = vI V 198 r := fun r => ⟨a2.vI (a := 197) (by decide) r, a2.vI (a := 198) (by decide) r⟩
  have gx : ∀ x, x < SL.length → gQ V (SL.getD x 0) = (ovQ tm (wQ (yw Y) p)).getD x q0 := fun x hx => by
    rw [← a6, List.getD_eq_getElem?_getD, List.getD_eq_getElem?_getD, List.getElem?_map, List.getElem?_eq_getElem hx]
    rfl
  have pw : (ovQ tm (wQ (yw Y) p)).Pairwise (fun a b => qNum a < qNum b) := (hJ.2.1.2.1.2.2.2 p hp).2.2.2.2.1.filter _
  obtain ⟨M2, V2, Y2, c1, c2, c3, c4, c5, c6, c7⟩ := j_roloop (SL := SL) (nm := fun x => qNum ((ovQ tm (wQ (yw Y) p)).getD x q0)) (n := SL.length) hN hal hnS hp rfl a4 (fun x x' hxx hx' => by
    have := List.pairwise_iff_getElem.mp pw x x' (by omega) (by omega) hxx
    rw [List.getD_eq_getElem?_getD, List.getD_eq_getElem?_getD, List.getElem?_eq_getElem (by omega), List.getElem?_eq_getElem (by omega)]
    show qNum _ ≠ qNum _
    have e : ∀ (a : Rq), (some a).getD q0 = a := fun a => rfl
    rw [e, e]
    omega) SL.length 0 K FU M1 V1 Y (by omega) (by unfold FU; omega) ⟨h, lf, b0, eg, mn, sto, fa, Z, ev, oth, tn, hJ1, hCT⟩ (by omega) (fun x hx => b3 x (by omega)) a3 (fun x _ hx => by
      have hm := a5 _ (getD_mem (d := 0) hx)
      have g := gx x hx
      refine ⟨List.mem_filter.mpr ⟨(List.mem_filter.mp hm).1, by rw [(ge _).1]; exact (List.mem_filter.mp hm).2⟩, ?_, ?_⟩
      · rw [(ge _).2, ← g]; rfl
      · have := List.mem_filter.mp (getD_mem (L := ovQ tm (wQ (yw Y) p)) (j := x) (d := q0) (by omega))
        exact ⟨_, this.1, rfl, of_decide_eq_true this.2⟩)
  refine ⟨M2, V2, Y2, ?_, ?_, JD_K c3 (by omega), (b4.mono (fun z hz => by rw [beq_iff_eq.mp hz]; rfl)).trans (c4.mono (fun z hz => by unfold FE; rw [hz]; rfl)), (Kp1_fr fV rfl rfl).trans (fun a i z => c5 a i (by unfold kp1 at z; unfold kp0; omega)), c6, c7⟩
  · rw [b1, len]; exact c1
  · rw [a1]; exact c2
end JRO
