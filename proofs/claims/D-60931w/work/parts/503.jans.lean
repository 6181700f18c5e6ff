/-! a request is answered, both sides -/
theorem pk_isBL {M : MM} {a : Nat} {l : List Int} (h : PkC M a l) : isBL l := fun b hb => by
  obtain ⟨i, hi, e⟩ := List.getElem_of_mem hb
  have := h.2.2.2 i hi
  rw [gd_get hi, e] at this
  rw [← this]
  exact ⟨rU_lo, rU_hi⟩
section JANS
variable {S : Nat → Bool} {M M1 : MM} {V W : VV} {m al N p t nb oth oth' Z Z' L L' k k' kx : Nat} {pa tk : Nat → Nat} {own : Nat → Ky} {sd ps sn pu rf : Nat → Int} {tm ad : Int} {lf : Nat → Nat} {b0 : Nat × Nat} {h h' : Gh} {eg : EG} {pb as : Nat → Option Nat} {mn sto : Nat → Int} {fa : Nat → Nat} {Y : Ys} {Lb : Nat → List Trm} {LA : Nat → List Nat} {dn : Nat → Int} {ev ev' tn : Nat → Nat} {w w' : Wd} {KL : List Ky} {key : Ky} {l : List Int} {T' : List Row}
theorem OKw_send (p32 : p < 32) (hl : kyP l 5 ∈ KL) (hO : OKw N own tm KL k ev w w') : OKw N own tm KL k ev w (sendY N sd tm w' p ad l) := by
  obtain ⟨o1, o2, o3, o4, o5⟩ := hO
  exact ⟨ok_send o1, o2, PI_send p32 hl o3, o4, o5⟩
theorem OKw_ansW (hO : okW N own tm w) (hE : EvI N ev w) (hP : PI KL tm (wT w) k w) (hT : ∀ q, q < N → okTK KL (wT w q)) : OKw N own tm KL k ev w (ansW tm w p l).1 := by
  unfold ansW
  split
  · split
    · exact ⟨hO, hE, hP, hT, fun _ _ _ => rfl⟩
    · exact ⟨hO, hE, hP, hT, fun _ _ _ => rfl⟩
  · exact ⟨hO, hE, hP, hT, fun _ _ _ => rfl⟩
theorem OKw_ansZ (p32 : p < 32) (hk : kyo (own p)) (ho : own p ∈ KL) (hO : okW N own tm w) (hE : EvI N ev w) (hP : PI KL tm (wT w) k w) (hT : ∀ q, q < N → okTK KL (wT w q)) : OKw N own tm KL k ev w (ansZ m N own sd tm w p ad key l) := by
  have o := OKw_ansW (p := p) (l := l) hO hE hP hT
  unfold ansZ
  split
  · refine OKw_send p32 ?_ o
    unfold ansB
    rw [kyP5 hk]; exact ho
  · exact o
def A357 : Nat → Bool := fun z => z == 1 || z == 3 || z == 5 || z == 7
/-- one answers a request -/
theorem j_answer (hJ : JX M V m al N pa own sd ps sn pu rf tm tk pb as nb Lb LA dn KL k h lf b0 eg mn sto fa Z ev oth tn Y) (hN : 12 + N ≤ 44) (hB : bdg N ev oth) (hp : p < N) (hq : PkC M 22 l) (hI : InV V l) (hwl : wellL l = true) (hty : l.getD 0 0 % 2 = 1 ∧ l.getD 0 0 ≠ 15) (hc : ky (kC M 42) = key) (hv : gk V 272 0 = key) (ha : 0 ≤ ad ∧ ad < 32) :
    ∃ M' V' h', ((f_X17_answers ((pa p : Nat) : Int) ((22 : Nat) : Int) ((42 : Nat) : Int) M).bind fun r1 => if w32 r1.1 = 0 then some r1.2 else (gfr 17 0 ((pa p : Nat) : Int) r1.2).bind fun v8 => (gfr 6 9 v8 r1.2).bind fun v9 => ck 17 ((pa p : Nat) : Int) r1.2 <| (f_X17_send ((pa p : Nat) : Int) ad v9 r1.2).bind fun M4 => some M4) = some M' ∧ f_X16_answer (p : Int) ad V = some V' ∧ JX M' V' m al N pa own sd ps sn pu rf tm tk pb as nb Lb LA dn KL k h' lf b0 eg mn sto fa Z ev (oth + 1) tn (setW Y (ansZ m N own sd tm (yw Y) p ad key l)) ∧ FK A357 M M' ∧ FrV (fun z => z == 1 || z == 3 || z == 5 || z == 9) V V' := by
  obtain ⟨j1, j2, j3, j4, j5, j6, j7⟩ := id hJ
  have hC := j1.1.1.1
  obtain ⟨L, hP, hL⟩ := j2.1
  have p32 : p < 32 := by omega
  have bd := hC.1.1
  have oW := OKw_ansW (p := p) (l := l) j2.2.1 j2.2.2.1 j5 (fun q hq => (j7 q hq).2)
  have oZ := OKw_ansZ (m := m) (sd := sd) (ad := ad) (key := key) (l := l) p32 (j2.2.1.2.2.2 p hp).1 (j7 p hp).1 j2.2.1 j2.2.2.1 j5 (fun q hq => (j7 q hq).2)
  obtain ⟨M1, h1, a1, a2, a3, a4⟩ := cp_answers (x := 22) (x2 := ((42 : Nat) : Int)) (wo := some key) hC j2.2.1 hp (Or.inl rfl) hq (pk_isBL hq) hwl hty (Or.inr ⟨rfl, by rw [hc]⟩)
  obtain ⟨V', L', b1, b2, b3, b4, b5⟩ := vp_answer hP j2.2.1 oW.1 hp hI (pk_isBL hq) hwl hty ha (bd_L j2.2.2.1 hB hL) hv
  have f1 : FK A357 M M1 := FK_exa a4 (fun z _ hz => by
    rcases hz with e | e | e
    · rw [e]; rfl
    · rw [e]; rfl
    · rw [aq_mo bd e]; rfl)
  have fV : FrV G5 V V' := FrV.mono b5 (fun z hz => by
    simp only [Bool.or_eq_true, beq_iff_eq] at hz
    rcases hz with ((e | e) | e) | e <;> rw [e] <;> rfl)
  have nx : wnx (ansW tm (yw Y) p l).1 = wnx (yw Y) := by
    unfold ansW
    split
    · split <;> rfl
    · rfl
  cases hb : (ansW tm (yw Y) p l).2 with
  | false =>
    have eZ : ansZ m N own sd tm (yw Y) p ad key l = (ansW tm (yw Y) p l).1 := by unfold ansZ; rw [hb, if_neg Bool.false_ne_true]
    rw [hb] at a1
    rw [eZ] at b2 oZ ⊢
    refine ⟨M1, V', h1, ?_, b1, JX_w hJ hN a2 f1 (by decide) fV b2 (by rw [nx]; omega) oZ, f1, b5⟩
    rw [a1, Option.bind_some]
    rfl
  | true =>
    have eZ : ansZ m N own sd tm (yw Y) p ad key l = sendY N sd tm (ansW tm (yw Y) p l).1 p ad (ansB m (wst (yw Y) 9).toNat (own p) (some key) (wT (yw Y) p) (wS (yw Y) p) l) := by unfold ansZ; rw [hb, if_pos rfl]
    rw [hb] at a1
    have a3 := a3 hb
    have bd1 := a2.1.1
    have m33 := (BdS_mo bd1).2.2.2.2.2.1
    obtain ⟨M2, h2, c1, c2, c3⟩ := cp_send (x := 33) (ad := ad) a2 oW.1 hp ha a3 m33
    rw [eZ] at b2 oZ ⊢
    have f2 : FK A357 M1 M2 := c3.mono (mo2 ⟨rfl, rfl⟩)
    have k17 : (kd M1 (pa p)).1 = 17 := by rw [(a2.2.2.2.2.1.2.2 p hp).1.1]
    refine ⟨M2, V', h2, ?_, b1, JX_w hJ hN c2 (FK.trans f1 f2) (by decide) fV b2 (by show L' ≤ 2 * (sumN (wnx (ansW tm (yw Y) p l).1) N + (oth + 1)); rw [nx]; omega) oZ, FK.trans f1 f2, b5⟩
    rw [a1, Option.bind_some]
    dsimp only
    rw [if_neg (show ¬ w32 (b2i true) = 0 from by decide), gfr_e k17, (a2.2.2.2.2.1.2.2 p hp).1.2.2.1.1, Option.bind_some, gfr_e (by rw [bd1.1]), bd1.2.2.1.2.2.2.2.2.2.1, Option.bind_some, ck_e k17, c1, Option.bind_some]
end JANS
