/-! filters: bits of postings -/
theorem l64 {x : Int} (h1 : -9223372036854775808 ≤ x) (h2 : x ≤ 9223372036854775807) : (Int64.ofInt x).toInt = x := Int64.toInt_ofInt_of_le (by omega) (by omega)
theorem lnd_e (v : Int) : lnd v 4294967295 = (u32 v : Int) := by
  have hn : (Int64.ofInt v &&& Int64.ofInt 4294967295).toBitVec.toNat = u32 v := by
    rw [Int64.toBitVec_and, BitVec.toNat_and]
    show (BitVec.ofInt 64 v).toNat &&& (BitVec.ofInt 64 4294967295).toNat = _
    rw [show (BitVec.ofInt 64 4294967295).toNat = 2 ^ 32 - 1 by decide, Nat.and_two_pow_sub_one_eq_mod, BitVec.toNat_ofInt]
    have h := u32_emod v
    have e : ((2 ^ 64 : Nat) : Int) = 18446744073709551616 := by decide
    rw [e]
    omega
  have hl := u32_lt v
  unfold lnd
  show (Int64.ofInt v &&& Int64.ofInt 4294967295).toBitVec.toInt = _
  rw [BitVec.toInt_eq_toNat_cond, hn, if_pos (by omega)]
theorem rml_e {x y : Int} {p q : Nat} (hx : x = (p : Int)) (hy : y = (q : Int)) (hp : p < 9223372036854775808) (hq : 0 < q) (hq2 : q < 9223372036854775808) : rml x y = some ((p % q : Nat) : Int) := by
  unfold rml lrm
  have hy2 : (Int64.ofInt y).toInt = (q : Int) := by rw [hy]; exact l64 (by omega) (by omega)
  rw [if_neg (fun z => by rw [z] at hy2; have : (0 : Int64).toInt = 0 := by decide
                          rw [this] at hy2; omega), hy2, hx, l64 (by omega) (by omega)]
  congr 1
theorem lcv_e {n : Nat} (h : n < 2147483648) : lcv (n : Int) = (n : Int) := by
  unfold lcv
  rw [Int64.toInt_toInt32, l64 (by omega) (by omega)]
  exact Int.bmod_eq_of_le (by omega) (by omega)
def hAB (o d : Int) (i : Nat) : Nat := u32 (sha1 (fun i => if i = 0 then o else d) 2 i)
def bitF (o d : Int) (m i : Nat) : Nat := (hAB o d 0 + i * hAB o d 1) % (8 * m)
theorem bitF_lt {o d : Int} {m i : Nat} (hm : 0 < m) : bitF o d m i < 8 * m := Nat.mod_lt _ (by omega)
theorem bor_bit : ∀ x, x < 256 → ∀ n, n < 8 → bor ((x : Nat) : Int) (bshl 1 ((n : Nat) : Int)) = ((x ||| 2 ^ n : Nat) : Int) := by decide +kernel
theorem tst_bit : ∀ x, x < 256 → ∀ n, n < 8 → band (bshr ((x : Nat) : Int) ((n : Nat) : Int)) 1 = if x.testBit n = true then 1 else 0 := by decide +kernel
theorem or_lt : ∀ x, x < 256 → ∀ n, n < 8 → x ||| 2 ^ n < 256 := by decide +kernel
/-- bytes of a filter, from 0 to 255 -/
def okB (bs : List Int) : Prop := bs.length ≤ 290 ∧ ∀ b, b ∈ bs → 0 ≤ b ∧ b < 256
def setB (bs : List Int) (j : Nat) : List Int := bs.set (j / 8) (((bs.getD (j / 8) 0).toNat ||| 2 ^ (j % 8) : Nat) : Int)
def tstB (bs : List Int) (j : Nat) : Bool := (bs.getD (j / 8) 0).toNat.testBit (j % 8)
def fltL (n h : Nat) : Nat := (n * h * 1443 + 7999) / 8000
def addF (m h : Nat) (bs : List Int) (o d : Int) : List Int := (List.range h).foldl (fun bs i => setB bs (bitF o d m i)) bs
def mkF (h : Nat) (ps : List Post) : List Int := ps.foldl (fun bs x => addF (fltL ps.length h) h bs x.2.1 x.2.2.1) (List.replicate (fltL ps.length h) 0)
def mayF (h : Nat) (bs : List Int) (o d : Int) : Bool := bs.length == 0 || (List.range h).all (fun i => tstB bs (bitF o d bs.length i))
theorem setB_len {bs : List Int} {j : Nat} : (setB bs j).length = bs.length := by unfold setB; rw [List.length_set]
theorem okB_get {bs : List Int} {j : Nat} (h : okB bs) : 0 ≤ bs.getD j 0 ∧ bs.getD j 0 < 256 := by
  by_cases c : j < bs.length
  · exact h.2 _ (getD_mem c)
  · have : bs.getD j 0 = 0 := by grind
    omega
theorem okB_set {bs : List Int} {j : Nat} (h : okB bs) : okB (setB bs j) := by
  refine ⟨by rw [setB_len]; exact h.1, fun b hb => ?_⟩
  unfold setB at hb
  rcases List.mem_or_eq_of_mem_set hb with hb | rfl
  · exact h.2 b hb
  · have g := okB_get (j := j / 8) h
    have := or_lt (bs.getD (j / 8) 0).toNat (by omega) (j % 8) (Nat.mod_lt _ (by decide))
    omega
theorem addF_succ {m h : Nat} {bs : List Int} {o d : Int} : addF m (h + 1) bs o d = setB (addF m h bs o d) (bitF o d m h) := by
  unfold addF
  rw [List.range_succ, List.foldl_append]
  rfl
theorem addF_ok {m : Nat} {bs : List Int} {o d : Int} (hb : okB bs) : ∀ h, okB (addF m h bs o d) ∧ (addF m h bs o d).length = bs.length
  | 0 => ⟨hb, rfl⟩
  | h + 1 => by
    have ih := addF_ok (m := m) (o := o) (d := d) hb h
    rw [addF_succ]
    exact ⟨okB_set ih.1, by rw [setB_len]; exact ih.2⟩
theorem setB_get {bs : List Int} {j i : Nat} (hj : j / 8 < bs.length) : (setB bs j).getD i 0 = if i = j / 8 then (((bs.getD (j / 8) 0).toNat ||| 2 ^ (j % 8) : Nat) : Int) else bs.getD i 0 := by
  unfold setB
  rw [List.getD_eq_getElem?_getD, List.getElem?_set, List.getD_eq_getElem?_getD (l := bs) (i := i)]
  by_cases c : i = j / 8
  · rw [if_pos c, if_pos c.symm, if_pos hj]; rfl
  · rw [if_neg c, if_neg (Ne.symm c)]
/-! the reference's -/
def FrS (P : Nat → Nat → Prop) (V V' : VV) : Prop := ∀ a i, ¬ P a i → V' a i = V a i
theorem FrS.refl {P : Nat → Nat → Prop} {V : VV} : FrS P V V := fun _ _ _ => rfl
theorem FrS.trans {P : Nat → Nat → Prop} {V V1 V2 : VV} (h1 : FrS P V V1) (h2 : FrS P V1 V2) : FrS P V V2 := fun a i h => (h2 a i h).trans (h1 a i h)
theorem FrS.mono {P Q : Nat → Nat → Prop} {V V1 : VV} (h : FrS P V V1) (hs : ∀ a i, P a i → Q a i) : FrS Q V V1 := fun a i hq => h a i (fun z => hq (hs a i z))
theorem FrS_st {P : Nat → Nat → Prop} {V : VV} {a i : Nat} {v : Int} (h : P a i) : FrS P V (st2 V a i v) := fun b j hb => st2_ne (fun q => hb (by rw [q.1, q.2]; exact h))
theorem FrS.vI {P : Nat → Nat → Prop} {V V1 : VV} (h : FrS P V V1) {a i : Nat} (ha : ¬ P a i) : vI V1 a i = vI V a i := by
  show w32 _ = w32 _
  rw [h a i ha]
/-- requests that are waited for keep their places -/
def SK (V W : VV) : Prop := ∀ r, vI V 197 r ≠ 0 → vI W 197 r = vI V 197 r ∧ vI W 198 r = vI V 198 r
theorem SK.refl {V : VV} : SK V V := fun _ _ => ⟨rfl, rfl⟩
theorem SK.trans {V V1 V2 : VV} (h1 : SK V V1) (h2 : SK V1 V2) : SK V V2 := fun r hr => by
  obtain ⟨a, b⟩ := h1 r hr
  obtain ⟨c, d⟩ := h2 r (by rw [a]; exact hr)
  exact ⟨c.trans a, d.trans b⟩
theorem SK_ag {V W : VV} (h : ∀ r, vI W 197 r = vI V 197 r ∧ vI W 198 r = vI V 198 r) : SK V W := fun r _ => h r
theorem SK_frs {P : Nat → Nat → Prop} {V W : VV} (f : FrS P V W) (h : ∀ i, ¬ P 197 i ∧ ¬ P 198 i) : SK V W := fun r _ => ⟨f.vI (h r).1, f.vI (h r).2⟩
theorem FrS.fr {P : Nat → Nat → Prop} {S : Nat → Bool} {V V1 : VV} (h : FrS P V V1) (hs : ∀ a i, P a i → S (mv a i) = true) : FrV S V V1 := fun a i ha => h a i (fun q => by rw [hs a i q] at ha; cases ha)
/-- what a hash writes -/
def PH (a i : Nat) : Prop := (159 ≤ a ∧ a ≤ 161) ∨ (a = 156 ∧ (i = 81 ∨ i = 82))
/-- and a filter -/
def PFl (a i : Nat) : Prop := (159 ≤ a ∧ a ≤ 161) ∨ a = 220 ∨ (a = 156 ∧ 78 ≤ i ∧ i ≤ 82)
theorem PH_PFl (a i : Nat) (h : PH a i) : PFl a i := by
  rcases h with h | h
  · exact Or.inl h
  · exact Or.inr (Or.inr (by omega))
def FltV (V : VV) (h : Nat) (bs : List Int) : Prop := vI V 156 79 = (h : Int) ∧ vI V 156 78 = (bs.length : Int) ∧ okB bs ∧ ∀ i, i < bs.length → vI V 220 i = bs.getD i 0
section VFLT
variable {V W : VV} {o d : Int} {h m i j : Nat} {bs : List Int}
theorem FltV_fr {P : Nat → Nat → Prop} (hf : FltV V h bs) (f : FrS P V W) (h1 : ¬ P 156 78) (h2 : ¬ P 156 79) (h3 : ∀ i, ¬ P 220 i) : FltV W h bs := by
  obtain ⟨a, b, c, e⟩ := hf
  exact ⟨by rw [f.vI h2]; exact a, by rw [f.vI h1]; exact b, c, fun i hi => by rw [f.vI (h3 i)]; exact e i hi⟩
theorem v_hashPosting (ho : w32 o = o) (hd : w32 d = d) : ∃ V', f_X16_hashPosting o d V = some V' ∧ V' 156 81 = (hAB o d 0 : Int) ∧ V' 156 82 = (hAB o d 1 : Int) ∧ FrS PH V V' := by
  obtain ⟨V3, s1, s2', s3⟩ := e_X16_sha (V := st2 (st2 V 159 0 o) 159 1 d) (n := 2) (by decide)
  have hc : ∀ i, i < 5 → vI V3 161 i = sha1 (fun i => if i = 0 then o else d) 2 i := by
    intro i hi
    rw [s2' i hi]
    have := sha1_congr (n := 2) (f := fun i => vI (st2 (st2 V 159 0 o) 159 1 d) 159 i) (f' := fun i => if i = 0 then o else d) (by
      intro j hj
      have : j = 0 ∨ j = 1 := by omega
      rcases this with rfl | rfl
      · show vI _ 159 0 = o
        rw [vI_ne (by decide), vI_eq rfl, ho]
      · show vI _ 159 1 = d
        rw [vI_eq rfl, hd])
    rw [this]
  have f3 : FrS PH V V3 := by
    have a1 : FrS PH V (st2 (st2 V 159 0 o) 159 1 d) := (FrS_st (Or.inl (by decide))).trans (FrS_st (Or.inl (by decide)))
    refine a1.trans (fun a i hp => s3 a (fun q => hp (Or.inl ?_)) i)
    omega
  refine ⟨st2 (st2 V3 156 81 (hAB o d 0 : Int)) 156 82 (hAB o d 1 : Int), ?_, ?_, ?_, (f3.trans (FrS_st (Or.inr (by decide)))).trans (FrS_st (Or.inr (by decide)))⟩
  · have e0 : (0 : Int) = ((0 : Nat) : Int) := rfl
    have e1 : (1 : Int) = ((1 : Nat) : Int) := rfl
    have e2 : (2 : Int) = ((2 : Nat) : Int) := rfl
    unfold f_X16_hashPosting
    rw [s2_e (j := 0) (by decide) (by decide), Option.bind_some, s2_e (j := 1) (by decide) (by decide), Option.bind_some, show f_X16_sha 2 _ = _ from s1, Option.bind_some, l2_e (j := 0) (by decide) (by decide), Option.bind_some, p2_e, Option.bind_some, l2_e (j := 1) (by decide) (by decide), Option.bind_some, p2_e, Option.bind_some, vI_ne (by decide), w32_vI, w32_vI, lnd_e, lnd_e, hc 0 (by decide), hc 1 (by decide)]
    rfl
  · show st2 (st2 V3 156 81 _) 156 82 _ 156 81 = _
    rw [st2_ne (by decide)]
    exact if_pos ⟨rfl, rfl⟩
  · exact if_pos ⟨rfl, rfl⟩
theorem hAB_lt : hAB o d i < 4294967296 := u32_lt _
theorem v_bit (h81 : V 156 81 = (hAB o d 0 : Int)) (h82 : V 156 82 = (hAB o d 1 : Int)) (hi : i ≤ 8) (hm : 0 < m) (hm2 : m ≤ 290) : f_X16_bit (i : Int) (m : Int) V = some ((bitF o d m i : Nat) : Int) := by
  have a0 := hAB_lt (o := o) (d := d) (i := 0)
  have a1 := hAB_lt (o := o) (d := d) (i := 1)
  have hmul : i * hAB o d 1 ≤ 8 * hAB o d 1 := Nat.mul_le_mul_right _ hi
  unfold f_X16_bit
  rw [h81, h82, w32_nn (by omega), w32_nn (by omega), rml_e (p := hAB o d 0 + i * hAB o d 1) (q := 8 * m) (by rw [Int.natCast_add, Int.natCast_mul]) (by omega) (by omega) (by omega) (by omega), Option.bind_some]
  have := bitF_lt (o := o) (d := d) (i := i) hm
  unfold bitF at this
  rw [lcv_e (by omega)]
  rfl
end VFLT
