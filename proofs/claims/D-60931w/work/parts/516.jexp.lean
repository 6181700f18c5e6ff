/-! postings expire, both sides -/
def expY (tm : Int) (w : Wd) (p : Nat) : Wd := setS w (fup (wS w) p (expS tm (wS w p)))
section JEXP
variable {S : Nat → Bool} {M M1 : MM} {V V' V2 W : VV} {m al N p t nb oth Z L k n s K K' q i j : Nat} {pa tk : Nat → Nat} {own : Nat → Ky} {sd ps sn pu rf : Nat → Int} {tm : Int} {lf : Nat → Nat} {b b0 B : Nat × Nat} {h h' : Gh} {eg : EG} {pb as : Nat → Option Nat} {mn sto : Nat → Int} {fa : Nat → Nat} {Y Y0 Y1 Y' : Ys} {Lb : Nat → List Trm} {LA : Nat → List Nat} {dn : Nat → Int} {ev tn nS : Nat → Nat} {w w' : Wd} {KL : List Ky}
theorem cp_expire (hC : CPs M m al N pa own sd ps sn pu rf tm lf b w h) (hp : p < N) : ∃ M' h', f_X18_expire ((pa p + 3 : Nat) : Int) tm M = some M' ∧ CPs M' m al N pa own sd ps sn pu rf tm lf b (expY tm w p) h' ∧ FK (fun z => z == 3) M M' := by
  obtain ⟨c1, c2, c3, c4, c5, c6, c7, c8, c9⟩ := hC
  have hu := c5.1
  obtain ⟨M', D', a1, a2, a3, a4⟩ := c_expireT c4 hp (show w32 tm = tm by rw [← c2.2.2.1]; exact w32_rI)
  have f := a4 (fun z => z == 3) rfl
  refine ⟨M', (h.1, h.2.1, h.2.2.1, D', h.2.2.2.2), a1, ⟨BoC_fk f hu (by decide) c1, NetRep_fk f hu (by decide) c2, tbs_fk f (by decide) c3, a2, PeC_fk f (by decide) c5, RqsC_fk f (by decide) c6, c7, ?_, c9⟩, f⟩
  rw [a3.1, a3.2]; exact c8
theorem vp_expire {Z : Nat} (h : VP V m al N own sd ps sn pu rf tm w L Z) (hp : p < N) : ∃ V', f_X16_expire (p : Int) V = some V' ∧ VP V' m al N own sd ps sn pu rf tm (expY tm w p) L Z ∧ FrV m3 V V' := by
  obtain ⟨h1, h2, h3, h4, h5, h6, h7, h8⟩ := h
  have hN := h2.2.1
  obtain ⟨V', a1, a2, a3⟩ := v_expire (p := p) h4 (by omega) h1.2.1
  exact ⟨V', a1, ⟨VNet_fr a3 (by decide) h1, PV_frV a3 (by decide) h2, tabs_frV a3 (by decide) h3, a2, rqs_frV a3 ⟨by decide, by decide⟩ h5, by rw [fv a3 (show m3 (mv 156 0) = false from rfl)]; exact h6, by rw [fv a3 (show m3 (mv 156 1) = false from rfl)]; exact h7, h8⟩, a3⟩
theorem j_expire (hJ : JD M V m al N pa own sd ps sn pu rf tm tk pb as nb Lb LA dn KL k K nS B Y) (hN : 12 + N ≤ 44) (hp : p < N) :
    JT (f_X18_expire ((pa p + 3 : Nat) : Int) tm M) (f_X16_expire (p : Int) V) M V m al N pa own sd ps sn pu rf tm tk pb as nb Lb LA dn KL k K nS B Y p := by
  obtain ⟨h, lf, b0, eg, mn, sto, fa, Z, ev, oth, tn, hJ, hCT⟩ := hJ
  obtain ⟨j1, j2, j3, j4, j5, j6, j7⟩ := id hJ
  obtain ⟨L, hP, hL⟩ := j2.1
  obtain ⟨M', h', a1, a2, a3⟩ := cp_expire (p := p) j1.1.1.1 hp
  obtain ⟨V', b1, b2, b3⟩ := vp_expire (p := p) hP hp
  have o : OKw N own tm KL k ev (yw Y) (expY tm (yw Y) p) := ⟨j2.2.1, j2.2.2.1, j5, fun q hq => (j7 q hq).2, fun _ _ _ => rfl⟩
  exact ⟨M', V', _, a1, b1, ⟨h', lf, b0, eg, mn, sto, fa, Z, ev, oth, tn, JX_w hJ hN a2 a3 (by decide) (FrV.mono b3 (fun z hz => by unfold m3 at hz; rw [beq_iff_eq.mp hz]; rfl)) b2 hL o, CTR_w hCT (Nat.le_refl _) (Nat.le_refl _) (Nat.le_refl _)⟩, a3.mono (fun z hz => by rw [beq_iff_eq.mp hz]; rfl), Kp1_fr b3 rfl rfl, .refl, EQ_S⟩
end JEXP
