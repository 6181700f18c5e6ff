/-! steps of both sides -/
theorem sumN_mono {f g : Nat → Nat} : ∀ n, (∀ i, i < n → f i ≤ g i) → sumN f n ≤ sumN g n
  | 0, _ => Nat.le_refl _
  | n + 1, h => by
    have a := sumN_mono n (fun i hi => h i (by omega))
    have b := h n (by omega)
    show sumN f n + f n ≤ sumN g n + g n
    omega
section JSTEPS
variable {S : Nat → Bool} {M M1 : MM} {V W : VV} {m al N p t nb oth oth' Z Z' L L' k k' kx : Nat} {pa tk : Nat → Nat} {own : Nat → Ky} {sd ps sn pu rf : Nat → Int} {tm ad : Int} {lf : Nat → Nat} {b0 : Nat × Nat} {h h' : Gh} {eg : EG} {pb as : Nat → Option Nat} {mn sto : Nat → Int} {fa : Nat → Nat} {Y : Ys} {Lb : Nat → List Trm} {LA : Nat → List Nat} {dn : Nat → Int} {ev ev' tn : Nat → Nat} {w w' : Wd} {KL : List Ky} {key : Ky} {l : List Int} {T' : List Row}
theorem vp_tally {i : Nat} (h : VP V m al N own sd ps sn pu rf tm w L Z) : VP (st2 V 172 i (vI V 172 i + 1)) m al N own sd ps sn pu rf tm (setL w (tlU (wtl w) i)) L Z := by
  obtain ⟨v1, v2, v3, v4, v5, v6, v7, v8⟩ := h
  have f : FrV (fun z => z == 5) V (st2 V 172 i (vI V 172 i + 1)) := FrV_st rfl
  exact ⟨VNet_fr f (by decide) v1, PV_tl v2, tabs_frV f (by decide) v3, sts_frV f (by decide) v4, rqs_ag v5 (fun a i z => by rw [vI_st2, if_neg (by omega)]), by rw [vI_st2, if_neg (by omega)]; exact v6, by rw [vI_st2, if_neg (by omega)]; exact v7, v8⟩
theorem OKw_L {tl : Nat → Int} (hO : okW N own tm w) (hE : EvI N ev w) (hP : PI KL tm (wT w) k w) (hT : ∀ q, q < N → okTK KL (wT w q)) : OKw N own tm KL k ev w (setL w tl) := ⟨hO, hE, hP, hT, fun _ _ _ => rfl⟩
theorem G5_5 : ∀ z, (z == 5) = true → G5 z = true := fun z hz => by rw [beq_iff_eq.mp hz]; rfl
/-- a tally -/
theorem j_tally {j : Nat} (hJ : JX M V m al N pa own sd ps sn pu rf tm tk pb as nb Lb LA dn KL k h lf b0 eg mn sto fa Z ev oth tn Y) (hN : 12 + N ≤ 44) (hp : p < N) (hj : j < 5) : (∀ {β : Type} (c : MM → Option β), ((gfi 17 (11 + j) ((pa p : Nat) : Int) M).bind fun v1 => (pfi 17 (11 + j) ((pa p : Nat) : Int) (v1 + 1) M).bind c) = c (sI M (pa p) (11 + j) (rI M (pa p) (11 + j) + 1))) ∧ (∀ {β : Type} (c : VV → Option β), ((l2 172 160 (((5 * p + j : Nat)) : Int) V).bind fun v1 => (s2 172 160 (((5 * p + j : Nat)) : Int) (v1 + 1) V).bind c) = c (st2 V 172 (5 * p + j) (vI V 172 (5 * p + j) + 1))) ∧ JX (sI M (pa p) (11 + j) (rI M (pa p) (11 + j) + 1)) (st2 V 172 (5 * p + j) (vI V 172 (5 * p + j) + 1)) m al N pa own sd ps sn pu rf tm tk pb as nb Lb LA dn KL k h lf b0 eg mn sto fa Z ev oth tn (setW Y (setL (yw Y) (tlU (wtl (yw Y)) (5 * p + j)))) ∧ FK (fun z => z == 5) M (sI M (pa p) (11 + j) (rI M (pa p) (11 + j) + 1)) := by
  obtain ⟨j1, j2, j3, j4, j5, j6, j7⟩ := id hJ
  have hC := j1.1.1.1
  have k17 : (kd M (pa p)).1 = 17 := by rw [(hC.2.2.2.2.1.2.2 p hp).1.1]
  obtain ⟨c1, c2⟩ := cp_tally (j := j) hC hp hj
  obtain ⟨L, hP, hL⟩ := j2.1
  have f := c2 (fun z => z == 5) rfl
  refine ⟨fun c => by rw [gfi_e k17, Option.bind_some, pfi_e k17, Option.bind_some], fun c => by rw [l2_n (by omega) (by omega), Option.bind_some, s2_n (by omega) (by omega), Option.bind_some], ?_, f⟩
  exact JX_w hJ hN c1 f (by decide) (FrV.mono (FrV_st (S := fun z => z == 5) rfl) G5_5) (vp_tally hP) hL (OKw_L j2.2.1 j2.2.2.1 j5 (fun q hq => (j7 q hq).2))
theorem bd_L (hE : EvI N ev w) (hB : bdg N ev oth) (hL : L ≤ 2 * (sumN (wnx w) N + oth)) : L + 2 < 2000000000 := by
  have := ev_sum hE hB
  omega
theorem G5_fs {P : Nat → Nat → Prop} (f : FrS P V W) (h : ∀ a i, P a i → G5 (mv a i) = true) : FrV G5 V W := fun a i z => f a i (fun q => by rw [h a i q] at z; cases z)
theorem PG_5 {a i : Nat} (h : PG a i) : G5 (mv a i) = true := by
  unfold PG PO at h
  rcases h with h | h | h | h
  · rw [h]; rfl
  · rw [h]; rfl
  · rw [h]; rfl
  · rw [h.1, h.2]; rfl
/-- one is lost -/
theorem j_lose {e q n : Nat} (hJ : JX M V m al N pa own sd ps sn pu rf tm tk pb as nb Lb LA dn KL k h lf b0 eg mn sto fa Z ev oth tn Y) (hN : 12 + N ≤ 44) (hp : p < N) (hk : isK M kx) (hc : ky (kC M kx) = key) (hv : gk V e q = key) (he : mA e n) (hq : q + 5 ≤ n) (hn : n ≤ 1000000) (ha : 0 ≤ ad ∧ ad < 32) (hZ : Z < 2147483647) : ∃ M' V' h' Z', f_X20_lose ((pa p + 10 : Nat) : Int) (kx : Int) ad M = some M' ∧ f_X16_lose (p : Int) (e : Int) (q : Int) ad V = some V' ∧ JX M' V' m al N pa own sd ps sn pu rf tm tk pb as nb Lb LA dn KL k h' lf b0 eg mn sto fa Z' ev oth tn (setW Y (loseY own (yw Y) p key ad)) ∧ Z' ≤ Z + 1 ∧ FK (fun z => z == 2) M M' ∧ FrV m2 V V' := by
  obtain ⟨j1, j2, j3, j4, j5, j6, j7⟩ := id hJ
  have hC := j1.1.1.1
  obtain ⟨L, hP, hL⟩ := j2.1
  have tl := tk_lose (own := own p) (key := key) (ad := ad) (j7 p hp).2
  have o : OKw N own tm KL k ev (yw Y) (loseY own (yw Y) p key ad) := OKw_T j2.2.1 j2.2.2.1 j5 j6 (fun q hq => (j7 q hq).2) tl
  obtain ⟨M', h', a1, a2, a3⟩ := cp_lose (kx := kx) hC j2.2.1 (by rw [hc]; exact o.1) hp hk ha
  obtain ⟨V', Z', b1, b2, b3, b4, b5⟩ := vp_lose hP hp ha hZ he hq hn
  rw [hc] at a2
  rw [hv] at b2
  have f := a3 (fun z => z == 2) rfl
  exact ⟨M', V', h', Z', a1, b1, JX_w hJ hN a2 f (by decide) (FrV.mono b5 (fun z hz => by unfold m2 at hz; rw [beq_iff_eq.mp hz]; rfl)) b2 hL o, b4, f, b5⟩
/-- one is seen -/
theorem j_see {e q n : Nat} (hJ : JX M V m al N pa own sd ps sn pu rf tm tk pb as nb Lb LA dn KL k h lf b0 eg mn sto fa Z ev oth tn Y) (hN : 12 + N ≤ 44) (hB : bdg N ev oth) (hp : p < N) (hk : isK M kx) (hkx : (kd M kx).2 ≠ 38) (hc : ky (kC M kx) = key) (hkl : key ∈ KL) (hv : gk V e q = key) (he : mA e n) (hq : q + 5 ≤ n) (hn : n ≤ 1000000) (hem : ∀ i, mv e i = 5 ∨ mv e i = 9 ∨ mv e i = 6) (ha : 0 ≤ ad ∧ ad < 32) (hZ : Z + 1 < 2147483647) : ∃ M' V' h' Z', f_X17_see ((pa p : Nat) : Int) (kx : Int) ad M = some M' ∧ f_X16_see (p : Int) (e : Int) (q : Int) ad V = some V' ∧ JX M' V' m al N pa own sd ps sn pu rf tm tk pb as nb Lb LA dn KL k h' lf b0 eg mn sto fa Z' ev (oth + 1) tn (setW Y (seeY m N own sd tm (yw Y) p key ad)) ∧ Z' ≤ Z + 1 ∧ FK P5 M M' ∧ (∀ q, (q = 22 ∨ q = 23 ∨ q = 42 ∨ q = 43) → (∀ i, M'.1 q i = M.1 q i) ∧ ∀ i, M'.2.1 q i = M.2.1 q i) ∧ FrS (fun a i => mv a i = 2 ∨ PG a i) V V' ∧ SK V V' := by
  obtain ⟨j1, j2, j3, j4, j5, j6, j7⟩ := id hJ
  have hC := j1.1.1.1
  obtain ⟨L, hP, hL⟩ := j2.1
  obtain ⟨o, o2⟩ := OKw_see (m := m) (sd := sd) hp j2.2.1 j2.2.2.1 j5 j6 j7 hB hkl ha
  obtain ⟨M', h', a1, a2, a3, a4⟩ := cp_see (kx := kx) hC j2.2.1 (by rw [hc]; exact o2) hp hk hkx ha
  rw [hc] at a2
  have tn0 : 0 ≤ vI V 231 0 := by rw [(j2.2.2.2.1 0 (by decide)).2.2.2]; omega
  obtain ⟨V', L', Z', b1, b2, b3, b4, b5, b6, b7, b8⟩ := vp_see (e := e) (q := q) hP j2.2.1 (by rw [hv]; exact o2) hp ha (bd_L j2.2.2.1 hB hL) hZ he hq hn hem (j2.2.2.1 p hp).1 tn0
  rw [hv] at b2
  have nx : sumN (wnx (yw Y)) N ≤ sumN (wnx (seeY m N own sd tm (yw Y) p key ad)) N := by
    have ak : ∀ (w : Wd) (x ty : Int) (ky' : Ky) (pb : Option Int), sumN (wnx w) N ≤ sumN (wnx (askY N own sd tm w p x ty ky' [] none pb).1) N := fun w x ty ky' pb => by
      unfold askY
      split
      · exact Nat.le_refl _
      · exact sumN_mono N (fun q _ => by
          show wnx w q ≤ fup (wnx w) p (wnx w p + 1) q
          by_cases c : q = p
          · rw [c, fup_eq]; omega
          · rw [fup_ne c]; exact Nat.le_refl _)
    unfold seeY
    split
    · split
      · exact ak (setT (yw Y) (fup (wT (yw Y)) p (seeT m (own p) key ad (wT (yw Y) p)).1)) _ _ _ _
      · exact Nat.le_refl _
    · exact Nat.le_refl _
  refine ⟨M', V', h', Z', a1, b1, JX_w hJ hN a2 a3 (by decide) (G5_fs b7 (fun a i z => ?_)) b2 (by omega) o, b6, a3, a4, b7, b8⟩
  rcases z with z | z
  · rw [z]; rfl
  · exact PG_5 z
end JSTEPS
