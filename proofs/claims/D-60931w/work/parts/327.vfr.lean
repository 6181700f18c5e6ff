/-! modules of the reference's ints: 1 net, 2 tables, 3 stores, 4 libraries, 5 peers and requests, 6 works, 8 what is at the top, 9 scratch -/
def mvS (i : Nat) : Nat := if i = 11 ∨ i = 12 ∨ i = 32 ∨ i = 33 then 1 else if i = 42 then 2 else if i = 13 then 5 else if i = 0 ∨ i = 1 ∨ i = 4 ∨ i = 91 ∨ i = 142 then 8 else 9
def mvA (a : Nat) : Nat := if a = 162 ∨ (182 ≤ a ∧ a ≤ 187) then 1 else if 189 ≤ a ∧ a ≤ 194 then 2 else if 210 ≤ a ∧ a ≤ 215 then 3 else if 173 ≤ a ∧ a ≤ 178 then 4 else if (165 ≤ a ∧ a ≤ 172) ∨ (197 ≤ a ∧ a ≤ 208) then 5 else if 226 ≤ a ∧ a ≤ 264 ∧ a ≠ 240 then 6 else if a = 157 ∨ a = 158 ∨ a = 163 ∨ a = 164 ∨ (265 ≤ a ∧ a ≤ 270) then 8 else 9
def mv (a i : Nat) : Nat := if a = 156 then mvS i else mvA a
def FrV (S : Nat → Bool) (V V' : VV) : Prop := ∀ a i, S (mv a i) = false → V' a i = V a i
theorem FrV.refl {S : Nat → Bool} {V : VV} : FrV S V V := fun _ _ _ => rfl
theorem FrV.trans {S : Nat → Bool} {V V1 V2 : VV} (h1 : FrV S V V1) (h2 : FrV S V1 V2) : FrV S V V2 := fun a i h => (h2 a i h).trans (h1 a i h)
theorem FrV.mono {S T : Nat → Bool} {V V1 : VV} (h : FrV S V V1) (hs : ∀ m, S m = true → T m = true) : FrV T V V1 := fun a i ht => h a i (by
  cases hq : S (mv a i) with
  | false => rfl
  | true => rw [hs _ hq] at ht; cases ht)
theorem FrV_st {S : Nat → Bool} {V : VV} {a i : Nat} {v : Int} (h : S (mv a i) = true) : FrV S V (st2 V a i v) := fun b j hb => st2_ne (fun q => by rw [q.1, q.2, h] at hb; cases hb)
theorem FrV_ex {S : Nat → Bool} {A : Nat → Prop} {V V1 : VV} (h : ExV A V V1) (hs : ∀ a i, A a → S (mv a i) = true) : FrV S V V1 := fun a i ha => h a (fun q => by rw [hs a i q] at ha; cases ha) i
theorem fv {S : Nat → Bool} {V V1 : VV} {a i : Nat} (h : FrV S V V1) (hs : S (mv a i) = false) : vI V1 a i = vI V a i := by
  show w32 _ = w32 _
  rw [h a i hs]
/-! the reference's net -/
def SlV (V : VV) (f : Nat) (x : Dg) : Prop := vI V 182 f = x.1 ∧ vI V 183 f = x.2.1 ∧ vI V 184 f = x.2.2.1 ∧ vI V 186 f = (x.2.2.2.length : Int) ∧ x.2.2.2.length ≤ 460 ∧ ∀ i, i < x.2.2.2.length → vI V 187 (460 * f + i) = x.2.2.2.getD i 0
/-- the order of the slots; L have been launched so far -/
def OrdV (V : VV) (o : Nat → Nat) (fl : List Dg) (L : Nat) : Prop := (∀ i, i < fl.length → o i < fl.length) ∧ (∀ i j, i < fl.length → j < fl.length → o i = o j → i = j) ∧ (∀ i, i < fl.length → SlV V (o i) (fl.getD i dg0) ∧ 0 ≤ vI V 185 (o i) ∧ vI V 185 (o i) < (L : Int)) ∧ ∀ i j, i < j → j < fl.length → (fl.getD i dg0).2.2.1 < (fl.getD j dg0).2.2.1 ∨ ((fl.getD i dg0).2.2.1 = (fl.getD j dg0).2.2.1 ∧ vI V 185 (o i) < vI V 185 (o j))
def VNet (V : VV) (st : Nat → Int) (tm lo : Int) (fl : List Dg) (L : Nat) : Prop := (∀ i, i < 11 → vI V 162 i = st i) ∧ vI V 156 11 = tm ∧ vI V 156 12 = lo ∧ vI V 156 32 = (fl.length : Int) ∧ vI V 156 33 = (L : Int) ∧ fl.length ≤ 400 ∧ ∃ o, OrdV V o fl L
theorem SlV_fr {S : Nat → Bool} {V V1 : VV} {f : Nat} {x : Dg} (h : FrV S V V1) (hs : S 1 = false) (hx : SlV V f x) : SlV V1 f x := by
  obtain ⟨h1, h2, h3, h4, h5, h6⟩ := hx
  exact ⟨by rw [fv h (show S (mv 182 f) = false from hs)]; exact h1, by rw [fv h (show S (mv 183 f) = false from hs)]; exact h2, by rw [fv h (show S (mv 184 f) = false from hs)]; exact h3, by rw [fv h (show S (mv 186 f) = false from hs)]; exact h4, h5, fun i hi => by rw [fv h (show S (mv 187 _) = false from hs)]; exact h6 i hi⟩
theorem VNet_fr {S : Nat → Bool} {V V1 : VV} {st : Nat → Int} {tm lo : Int} {fl : List Dg} {L : Nat} (h : FrV S V V1) (hs : S 1 = false) (hn : VNet V st tm lo fl L) : VNet V1 st tm lo fl L := by
  obtain ⟨h1, h2, h3, h4, h5, h6, o, o1, o2, o3, o4⟩ := hn
  have e5 : ∀ f, vI V1 185 f = vI V 185 f := fun f => fv h (show S (mv 185 f) = false from hs)
  refine ⟨fun i hi => by rw [fv h (show S (mv 162 i) = false from hs)]; exact h1 i hi, by rw [fv h (show S (mv 156 11) = false from hs)]; exact h2, by rw [fv h (show S (mv 156 12) = false from hs)]; exact h3, by rw [fv h (show S (mv 156 32) = false from hs)]; exact h4, by rw [fv h (show S (mv 156 33) = false from hs)]; exact h5, h6, o, o1, o2, fun i hi => ⟨SlV_fr h hs (o3 i hi).1, by rw [e5]; exact (o3 i hi).2⟩, fun i j hij hj => by rw [e5, e5]; exact o4 i j hij hj⟩
theorem bshr_n {z : Int} {n : Nat} (hn : n < 32) : bshr z (n : Int) = w32 z >>> n := by
  unfold bshr
  show (Int32.ofInt z >>> (Int32.ofInt (n : Int) &&& 31)).toBitVec.toInt = _
  rw [Int32.toBitVec_shiftRight]
  show (BitVec.sshiftRight (Int32.ofInt z).toBitVec ((Int32.ofInt (n : Int) &&& 31).toBitVec.smod 32).toNat).toInt = _
  rw [sh_l n hn, BitVec.toInt_sshiftRight]
  rfl
theorem bshr16 {z : Int} (h : 0 ≤ z ∧ z < 2147483648) : bshr z 16 = z / 65536 := by
  have := bshr_n (z := z) (n := 16) (by decide)
  rw [w32_id (by omega) (by omega), Int.shiftRight_eq_div_pow] at this
  exact this
theorem v_draw {V : VV} {st : Nat → Int} {tm lo : Int} {fl : List Dg} {L : Nat} (h : VNet V st tm lo fl L) : ∃ V', f_X16_draw V = some (drw (st 10), V') ∧ VNet V' (dS st) tm lo fl L ∧ FrV m1 V V' := by
  obtain ⟨h1, h2, h3, h4, h5, h6, o, o1, o2, o3, o4⟩ := h
  have sd := sdn_lo (st 10)
  have fr : FrV (fun _ => false) V (st2 V 162 10 (sdn (st 10))) → True := fun _ => trivial
  have ne : ∀ a i, a ≠ 162 → vI (st2 V 162 10 (sdn (st 10))) a i = vI V a i := fun a i ha => by rw [vI_st2, if_neg (fun q => ha q.1)]
  have r10 : vI (st2 V 162 10 (sdn (st 10))) 162 10 = sdn (st 10) := by rw [vI_st2, if_pos ⟨rfl, rfl⟩, w32_id (by omega) (by omega)]
  refine ⟨st2 V 162 10 (sdn (st 10)), ?_, ⟨?_, by rw [ne _ _ (by decide)]; exact h2, by rw [ne _ _ (by decide)]; exact h3, by rw [ne _ _ (by decide)]; exact h4, by rw [ne _ _ (by decide)]; exact h5, h6, o, o1, o2, fun i hi => ?_, fun i j hij hj => by rw [ne _ _ (by decide), ne _ _ (by decide)]; exact o4 i j hij hj⟩, FrV_st rfl⟩
  · unfold f_X16_draw
    rw [l2_e (show w32 10 = ((10 : Nat) : Int) by decide) (by decide), Option.bind_some, s2_e (show w32 10 = ((10 : Nat) : Int) by decide) (by decide), Option.bind_some, h1 10 (by decide)]
    show ((l2 162 11 10 (st2 V 162 10 (sdn (st 10)))).bind fun v2 => some (bshr v2 16, st2 V 162 10 (sdn (st 10)))) = _
    rw [l2_e (show w32 10 = ((10 : Nat) : Int) by decide) (by decide), Option.bind_some, r10, bshr16 sd]
    rfl
  · intro i hi
    show _ = if i = 10 then _ else _
    by_cases q : i = 10
    · rw [if_pos q, q]; exact r10
    · rw [if_neg q, vI_st2, if_neg (fun z => q z.2)]; exact h1 i hi
  · obtain ⟨⟨s1, s2, s3, s4, s5, s6⟩, t1⟩ := o3 i hi
    exact ⟨⟨by rw [ne _ _ (by decide)]; exact s1, by rw [ne _ _ (by decide)]; exact s2, by rw [ne _ _ (by decide)]; exact s3, by rw [ne _ _ (by decide)]; exact s4, s5, fun k hk => by rw [ne _ _ (by decide)]; exact s6 k hk⟩, by rw [ne _ _ (by decide)]; exact t1⟩
