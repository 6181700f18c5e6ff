/-! the tape's hash, both sides -/
def TpR (M : MM) (V : VV) (n : Nat) : Prop := rI M 0 5 = (n : Int) ∧ vI V 156 4 = (n : Int) ∧ n ≤ 500 ∧ ∀ i, i < 500 → rU M 2 i = vI V 158 i
section KHASH
variable {M M1 : MM} {V W : VV} {m al N p t nb k K s n : Nat} {pa tk : Nat → Nat} {own : Nat → Ky} {sd ps sn pu rf : Nat → Int} {tm x1 x2 x : Int} {lf : Nat → Nat} {b Bt : Nat × Nat} {h : Gh} {as : Nat → Option Nat} {Y : Ys} {Lb : Nat → List Trm} {LA : Nat → List Nat} {dn : Nat → Int} {KL : List Ky} {w : Wd} {Z : Nat → Prop}
theorem cp_board8 (hc : CPs M m al N pa own sd ps sn pu rf tm lf b w h) (hx : Ex Z M M1) (hz : ¬ Z 18) (hm : ∀ z, z < nN M → Z z → mo M z = 7 ∨ mo M z = 8) : CPs M1 m al N pa own sd ps sn pu rf tm lf b w h ∧ FK (fun z => z == 7 || z == 8) M M1 := by
  obtain ⟨c1, c2, c3, c4, c5, c6, c7, c8, c9⟩ := hc
  have hu := c5.1
  have f : FK (fun z => z == 7 || z == 8) M M1 := FK_ex hx (fun z hz1 hz2 => by rcases hm z hz1 hz2 with e | e <;> rw [e] <;> rfl)
  exact ⟨⟨BoC_ex hx hz c1, NetRep_fk f hu (by decide) c2, tbs_fk f ⟨by decide, by decide⟩ c3, sts_fk f (by decide) c4, PeC_fk f ⟨by decide, by decide⟩ c5, RqsC_fk f (by decide) c6, c7, ⟨by rw [hx.nN]; exact c8.1, by rw [hx.nU]; exact c8.2⟩, c9⟩, f⟩
/-- scratch of the class and of the reference -/
theorem TK_cs (hT : TK M V m al N pa own sd ps sn tm tk as nb Lb LA dn KL K s Bt Y) (hN : 12 + N ≤ 44) (hx : Ex Z M M1) (hz : ¬ Z 18) (hm : ∀ z, z < nN M → Z z → mo M z = 7 ∨ mo M z = 8) (f9 : FrV (fun z => z == 9) V W) : TK M1 W m al N pa own sd ps sn tm tk as nb Lb LA dn KL K s Bt Y ∧ FK (fun z => z == 7 || z == 8) M M1 := by
  obtain ⟨pu, rf, pb, nS, B, k, ⟨h, lf, b0, eg, mn, sto, fa, Z', ev, oth, tn, hJ, hCT⟩, h2⟩ := hT
  obtain ⟨a1, a2⟩ := cp_board8 hJ.1.1.1.1 hx hz hm
  exact ⟨⟨pu, rf, pb, nS, B, k, ⟨h, lf, b0, eg, mn, sto, fa, Z', ev, oth, tn, JX_s hJ hN a1 a2 (by decide) f9, hCT⟩, h2⟩, a2⟩
theorem XC_ex (hx : Ex Z M M1) (h0 : ¬ Z 0) (hX : XC M nb tk) : XC M1 nb tk := by
  obtain ⟨⟨x1, x2, x3⟩, ⟨a1, a2, a3, a4, a5, a6, a7, a8, a9⟩, ⟨k1, k2, k3, k4, k5⟩, h4, h5, h6⟩ := hX
  exact ⟨⟨by rw [hx.kd]; exact x1, by rw [hx.rR]; exact x2, by rw [hx.rR]; exact x3⟩, ⟨by rw [hx.rR]; exact a1, by rw [hx.rR]; exact a2, by rw [hx.rR]; exact a3, by rw [hx.rR]; exact a4, by rw [hx.rR]; exact a5, by rw [hx.rR]; exact a6, by rw [hx.rR]; exact a7, by rw [hx.rR]; exact a8, by rw [hx.rR]; exact a9⟩, ⟨by rw [hx.kd]; exact k1, by rw [hx.kd]; exact k2, by rw [hx.kd]; exact k3, by rw [hx.kd]; exact k4, by rw [hx.kd]; exact k5⟩, fun i hi => by rw [hx.rR]; exact h4 i hi, by rw [hx.rI h0]; exact h5, fun r hr => by rw [hx.rR]; exact h6 r hr⟩
theorem k_hash (hT : TK M V m al N pa own sd ps sn tm tk as nb Lb LA dn KL K s Bt Y) (hX : XC M nb tk) (hN : 12 + N ≤ 44) (hk : isK M 10 ∧ kd M 10 = (3, 19)) (hp : TpR M V n) (h1 : w32 x1 = x1) : ∃ (M' : MM) (V' : VV) (r : Int), f_X1_hash ((0 : Nat) : Int) x1 M = some (r, M') ∧ f_X16_hash x1 V = some (r, V') ∧ TK M' V' m al N pa own sd ps sn tm tk as nb Lb LA dn KL K s Bt Y ∧ XC M' nb tk ∧ Ex (fun a => a = 25 ∨ a = 26 ∨ a = 27 ∨ a = 11) M M' ∧ ExV (fun a => a = 159 ∨ a = 160 ∨ a = 161) V V' := by
  obtain ⟨p1, p2, p3, p4⟩ := hp
  obtain ⟨V', v1, v2, v3⟩ := v_hashTape p2 p3
  have f9 : FrV (fun z => z == 9) V V' := fun a i z => v3 a (fun e => by
    rcases e with e | e | e
    · rw [e, show mv 159 i = 9 from rfl] at z; cases z
    · rw [e, show mv 160 i = 9 from rfl] at z; cases z
    · rw [e, show mv 161 i = 9 from rfl] at z; cases z) i
  have id1 := TK_cs (Z := fun _ => False) hT hN (Ex.refl (M := M)) (fun z => z) (fun z _ q => absurd q id) f9
  have w5 : w32 5 = 5 := by decide
  unfold f_X1_hash f_X16_hash
  rw [v1, Option.bind_some, h1, w5]
  by_cases c1 : x1 < 0
  · rw [if_pos c1, if_pos c1]
    exact ⟨M, V', 0, rfl, rfl, id1.1, hX, .refl, v3⟩
  rw [if_neg c1, if_neg c1]
  by_cases c2 : x1 < 5
  · rw [if_pos c2, if_pos c2]
    obtain ⟨j, hj⟩ : ∃ j : Nat, x1 = (j : Int) := ⟨x1.toNat, by omega⟩
    obtain ⟨hb, _⟩ := TK_peer hT
    have hu := TK_un hT
    obtain ⟨M1, a1, a2, a3⟩ := e_X8_of (x := 2) (kx := 401) (lx := 500) (n := n) (b := 10) hb.1.2.2.2.2.2.2.2.2.1 hX.2.2.1.2.1 (by decide) (by decide) (by decide) p3 p3 hk.1
    have m11 : mo M 11 = 8 := mo_kw (q := 10) hk.1.2.2 (Or.inl rfl) hk.2 (by decide) (by decide)
    have sha := hb.1.2.2.2.2.2.2.2.2.1
    have tk1 := TK_cs (M1 := M1) hT hN a3 (by decide) (fun z _ hz => by
      rcases hz with e | e | e | e
      · left; rw [e]; exact mo_ar sha.2.2.2.2.1 (by decide) (by decide)
      · left; rw [e]; exact mo_ar sha.2.2.2.2.2.1 (by decide) (by decide)
      · left; rw [e]; exact mo_ar sha.2.2.2.2.2.2 (by decide) (by decide)
      · right; rw [e]; exact m11) f9
    refine ⟨M1, V', sha1 (fun i => vI V 158 i) n j, ?_, ?_, tk1.1, XC_ex a3 (by decide) hX, a3, v3⟩
    · have k6 : (kd M 18).1 = 6 := by rw [hb.1.1]
      rw [gfr_e hX.1.1, Option.bind_some, hX.1.2.1, gfr_e k6, Option.bind_some, hb.1.2.2.1.2.1, gfr_e hX.1.1, Option.bind_some, hX.2.1.2.1, gfi_e hX.1.1, Option.bind_some, p1, gfr_e hX.1.1, Option.bind_some, hX.2.1.2.2.2.2.2.2.1, ck_e (by rw [sha.1]), a1, Option.bind_some, gfr_e (by rw [a3.kd]; exact hX.1.1), Option.bind_some, a3.rR, hX.2.1.2.2.2.2.2.2.1, gfr_e (by rw [a3.kd]; exact hk.1.1), Option.bind_some, a3.rR, hk.1.2.1, lai_e (k := 64) (l := 5) (j := j) (by rw [a3.kd]; exact hk.1.2.2) (by decide) (by decide) (by rw [h1, hj]) (by omega), Option.bind_some, a2 j (by omega), sha1_congr (f := fun i => rU M 2 i) (f' := fun i => vI V 158 i) (fun i hi => p4 i (by omega))]
    · rw [hj, l2_n (show j < 5 by omega) (by decide), Option.bind_some, v2 j (by omega)]
      rfl
  · rw [if_neg c2, if_neg c2]
    exact ⟨M, V', 0, rfl, rfl, id1.1, hX, .refl, v3⟩
end KHASH
