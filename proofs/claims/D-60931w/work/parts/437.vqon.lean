/-! what comes next in a query -/
/-- the scores of a list that is checked -/
def scQ (L : List It) (f : Nat) (k : Int) : Prop := ∀ i, i < L.length → (L.getD i it0).2.2 ≤ if i < f then 15 * (k + 2) else 15 * (k + 1)
/-- what is so of a query that asks holders -/
def qOK (own : Nat → Ky) (Y : Ys) (t : Nat) : Prop :=
  (1 ≤ yv Y 247 t ∧ yv Y 247 t ≤ 3) ∧ (yv Y 230 t = 3 ∨ yv Y 230 t = 4 ∨ yv Y 230 t = 5) ∧ (((qO (yq Y) t).length : Int) = yv Y 247 t ∧ ∀ y, y ∈ qO (yq Y) t → (y : Int) < yv Y 247 t) ∧ (yv Y 230 t ≠ 4 → 2 ≤ yv Y 247 t) ∧ (∀ i : Nat, (i : Int) < yv Y 247 t → 0 ≤ yv Y 250 (3 * t + i) ∧ yv Y 250 (3 * t + i) < 32) ∧ (qH (yq Y) (3 * t + (qO (yq Y) t).getD (if yv Y 247 t = 1 then 0 else 1) 0) = own (yp Y t) → 0 ≤ yv Y 254 t ∧ yv Y 254 t ≤ 229) ∧ okB (qB (yq Y) t) ∧ (2 ≤ yv Y 247 t → yv Y 230 t ≠ 3 → 1 ≤ yv Y 256 t ∧ yv Y 256 t ≤ 8) ∧ okL (qL (yq Y) t) ∧ (yv Y 230 t = 5 → ((yv Y 263 t = 0 ∨ yv Y 263 t = 2) ∧ yv Y 263 t < yv Y 247 t) ∧ (0 ≤ yv Y 264 t ∧ yv Y 264 t < ((qL (yq Y) t).length : Int)) ∧ ((qF (yq Y) t).length : Int) = yv Y 264 t ∧ scQ (qL (yq Y) t) (yv Y 264 t).toNat (if yv Y 263 t = 0 then 0 else 1)) ∧ (yv Y 230 t ≠ 5 → qF (yq Y) t = [] ∧ ∀ z, z ∈ qL (yq Y) t → z.2.2 ≤ 15)
theorem qI_lt {own : Nat → Ky} {Y : Ys} {t : Nat} (h : qOK own Y t) : ((qI Y t : Nat) : Int) < yv Y 247 t := by
  obtain ⟨h1, h2, h3, h4, h5, h6, h7, h8, h9, h10, h11⟩ := h
  unfold qI
  by_cases c : yv Y 230 t = 3
  · rw [if_pos c]; omega
  · rw [if_neg c]
    by_cases c2 : yv Y 230 t = 4
    · rw [if_pos c2]; split <;> omega
    · rw [if_neg c2]
      have := (h10 (by omega)).1
      omega
section VQON
variable {V W : VV} {m al N p t oth Z : Nat} {own : Nat → Ky} {sd ps sn pu rf : Nat → Int} {tm : Int} {ev tn : Nat → Nat} {Lb : Nat → List Trm} {Y : Ys} {bd : List Int} {l : List Int} {x : Int}
theorem body_pair (h : BodyV V l) (hl : l.length + 2 ≤ 325) : ∃ V1 V2, f_X16_bodyByte (bshr x 8) V = some V1 ∧ f_X16_bodyByte x V1 = some V2 ∧ BodyV V2 (l ++ be x 2) ∧ FrS PB V V1 ∧ FrS PB V V2 := by
  obtain ⟨V1, a1, a2, _, _⟩ := v_bodyByte h (by omega) (by_sh x (j := 1) (by decide)) (by_rg _ _)
  obtain ⟨V2, b1, b2, _, _⟩ := v_bodyByte (x := x) a2 (by rw [List.length_append, List.length_singleton]; omega) (by_0 x) (by_rg _ _)
  have f1 := bodyByte_fr a1
  refine ⟨V1, V2, a1, b1, ?_, f1, f1.trans (bodyByte_fr b1)⟩
  rw [List.append_assoc] at b2; exact b2
theorem PB9 {a i : Nat} (z : PB a i) : mv a i = 9 := by
  unfold PB at z
  rcases z with z | z
  · rw [z]; rfl
  · rw [z.1, z.2]; rfl
theorem PB_kp {a i : Nat} (z : PB a i) : ¬ kpA a i := by unfold PB at z; unfold kpA; omega
/-- a holder is asked -/
theorem v_askQ {q : Nat} {ty s : Int} (h : VY V m al N own sd ps sn pu rf tm Lb oth Z ev tn (setW Y (dtW t (yw Y)))) (hB : bdg N ev oth) (ht : t < 44) (htn : tn t < 2000000000) (hg : goW N Y t) (hq : qQ Y t = q) (hq2 : q < 132) (had : 0 ≤ yv Y 250 q ∧ yv Y 250 q < 32) (hs : (s = 3 ∧ ty = 9) ∨ (s = 4 ∧ ty = 11) ∨ (s = 5 ∧ ty = 13)) (hb : BodyV V bd) (hbl : isBL bd) (hbd : bd.length ≤ 325) : ∃ V' tn', j_X16_queryOn_570 (t : Int) s (q : Int) V = some (0, V') ∧ VY V' m al N own sd ps sn pu rf tm Lb oth Z ev tn' (askQ N own sd tm t ty bd Y) ∧ KpV V V' ∧ TnS t 1 tn tn' := by
  have r250 : vI V 250 q = yv Y 250 q := h.2.2.2.2.1 250 q (by unfold scA; omega)
  have k251 : gk V 251 (5 * q) = qH (yq Y) q := (h.2.2.2.2.2.1.2.1 q hq2).2
  obtain ⟨V1, a1, a2, a3, a4⟩ := vy_ask (ad := yv Y 250 q) (ty := ty) (e := 251) (n := 660) (q := 5 * q) h hB ht hg had (by omega) m251 (by omega) (by decide) (fun i => ⟨by show 6 ≠ 5; decide, by unfold PO; omega⟩) (by decide) hb hbl hbd
  rw [k251] at a1 a2
  have run : j_X16_queryOn_570 (t : Int) s (q : Int) V = j_X16_queryOn_592 (t : Int) (q : Int) ty V := by
    unfold j_X16_queryOn_570
    rcases hs with z | z | z <;> rw [z.1, z.2]
    · rw [if_pos rfl]
    · rw [if_neg (by decide), if_pos rfl]
    · rw [if_neg (by decide), if_neg (by decide)]
  have k1 : KpV V V1 := KpV_sk a3 (fun a i z => by
    rcases z with z | z
    · exact PSt_kp (Or.inl z)
    · unfold kp0; omega) a4
  rw [run]
  unfold j_X16_queryOn_592 j_X16_queryOn_625 askQ
  rw [hq, l2_n hq2 (by omega), r250, Option.bind_some, c5m, show f_X16_askFor (t : Int) (yv Y 250 q) 251 ((5 * q : Nat) : Int) ty V = _ from a1, Option.bind_some, w32_b2i]
  obtain ⟨A, hA⟩ : ∃ A, A = askY N own sd tm (dtW t (yw Y)) (yp Y t) (yv Y 250 q) ty (qH (yq Y) q) bd (some t) none := ⟨_, rfl⟩
  have hA2 : askY N own sd tm (yw (setW Y (dtW t (yw Y)))) (yp (setW Y (dtW t (yw Y))) t) (yv Y 250 q) ty (qH (yq Y) q) bd (some t) none = A := hA.symm
  rw [hA2] at a2 ⊢
  rw [← hA]
  have a2' : VY V1 m al N own sd ps sn pu rf tm Lb oth Z ev tn (A.1, yl Y, raS t (ys Y), yq Y) := a2
  cases hd : A.2 with
  | true =>
    rw [if_neg (by decide), if_pos rfl]
    exact ⟨V1, tn, rfl, a2', k1, TnS.refl⟩
  | false =>
    rw [if_pos (by decide), if_neg (by decide)]
    obtain ⟨V', e1, e2, e3⟩ := v_close (how := 2) a2' ht htn (by
      have : yv (A.1, yl Y, raS t (ys Y), yq Y) 229 t = yv Y 229 t := raS_ne (by decide)
      rw [this]; exact hg.2)
    exact ⟨V', _, by rw [e1]; rfl, e2, k1.trans e3, TnS.up⟩
/-- a list of bytes comes to the body -/
theorem v_bodyBits {x1 x3 x4 : Int} {bs : List Int} (ht : t < 44) (hx : x1 = (t : Int)) (h255 : vI V 255 t = (bs.length : Int)) (h257 : ∀ i, i < bs.length → vI V 257 (290 * t + i) = bs.getD i 0) (hok : okB bs) (hb : BodyV V l) (hl : l.length + bs.length ≤ 325) : ∃ U, l_X16_queryOn_338 x1 x3 x4 0 V = j_X16_queryOn_372 x1 x3 x4 U ∧ BodyV U (l ++ bs) ∧ FrS PB V U := by
  subst hx
  have l290 := hok.1
  have loop : ∀ d k fu (U : VV), d + k = bs.length → d < fu → BodyV U (l ++ bs.take k) → FrS PB V U → ∃ U', lpN (fun s : Int × VV => b_X16_queryOn_338 (t : Int) x3 x4 s.1 s.2) fu ((k : Int), U) = j_X16_queryOn_372 (t : Int) x3 x4 U' ∧ BodyV U' (l ++ bs) ∧ FrS PB V U' := by
    intro d
    induction d with
    | zero =>
      intro k fu U hd hf hB hF
      have e : k = bs.length := by omega
      subst e
      rw [List.take_of_length_le (Nat.le_refl _)] at hB
      refine ⟨U, lpN_end (b := fun s : Int × VV => b_X16_queryOn_338 (t : Int) x3 x4 s.1 s.2) (by omega) ?_, hB, hF⟩
      dsimp only
      unfold b_X16_queryOn_338
      rw [l2_n ht (by omega), hF.vI (by unfold PB; omega), h255, Option.bind_some, if_neg (by omega)]
    | succ d ih =>
      intro k fu U hd hf hB hF
      obtain ⟨f, rfl⟩ : ∃ f, fu = f + 1 := ⟨fu - 1, by omega⟩
      have bo := hok.2 _ (getD_mem (d := 0) (show k < bs.length by omega))
      obtain ⟨U1, a1, a2, a3⟩ := body_app (v := bs.getD k 0) hB (by rw [List.length_append, List.length_take]; omega) bo
      have st : b_X16_queryOn_338 (t : Int) x3 x4 (k : Int) U = some (.inl (((k + 1 : Nat) : Int), U1)) := by
        unfold b_X16_queryOn_338
        rw [l2_n ht (by omega), hF.vI (by unfold PB; omega), h255, Option.bind_some, w32_nn (by omega), w32_nn (by omega), if_pos (by omega), c290m, cadd, l2_n (by omega) (by omega), hF.vI (by unfold PB; omega), h257 k (by omega), Option.bind_some, a1, Option.bind_some]
        rfl
      rw [lpN_cnt (b := fun s : Int × VV => b_X16_queryOn_338 (t : Int) x3 x4 s.1 s.2) (s := ((k : Int), U)) st]
      refine ih (k + 1) f U1 (by omega) (by omega) ?_ (hF.trans a3)
      rw [take_s (d := 0) (by omega), ← List.append_assoc]
      exact a2
  unfold l_X16_queryOn_338
  exact loop bs.length 0 FU V (by omega) (by unfold FU; omega) (by rw [List.take_zero, List.append_nil]; exact hb) FrS.refl
theorem v_cpBits {x1 x2 x4 : Int} {bs : List Int} {hs : Nat} (ht : t < 44) (hx : x1 = (t : Int)) (h78 : vI V 156 78 = (bs.length : Int)) (h79 : vI V 156 79 = (hs : Int)) (h257 : ∀ i, i < bs.length → vI V 257 (290 * t + i) = bs.getD i 0) (hok : okB bs) : ∃ U, l_X16_queryOn_210 x1 x2 x4 0 V = j_X16_queryOn_245 x1 x2 x4 U ∧ FltV U hs bs ∧ FrS (fun a _ => a = 220) V U := by
  subst hx
  have l290 := hok.1
  have loop : ∀ d k fu (U : VV), d + k = bs.length → d < fu → (∀ i, i < k → vI U 220 i = bs.getD i 0) → FrS (fun a _ => a = 220) V U → ∃ U', lpN (fun s : Int × VV => b_X16_queryOn_210 (t : Int) x2 x4 s.1 s.2) fu ((k : Int), U) = j_X16_queryOn_245 (t : Int) x2 x4 U' ∧ (∀ i, i < bs.length → vI U' 220 i = bs.getD i 0) ∧ FrS (fun a _ => a = 220) V U' := by
    intro d
    induction d with
    | zero =>
      intro k fu U hd hf hB hF
      have e : k = bs.length := by omega
      subst e
      refine ⟨U, lpN_end (b := fun s : Int × VV => b_X16_queryOn_210 (t : Int) x2 x4 s.1 s.2) (by omega) ?_, hB, hF⟩
      dsimp only
      unfold b_X16_queryOn_210
      rw [v156, hF.vI (by decide), h78, w32_nn (by omega), if_neg (by omega)]
    | succ d ih =>
      intro k fu U hd hf hB hF
      obtain ⟨f, rfl⟩ : ∃ f, fu = f + 1 := ⟨fu - 1, by omega⟩
      have g : vI U 257 (290 * t + k) = bs.getD k 0 := by rw [hF.vI (by decide)]; exact h257 k (by omega)
      have st : b_X16_queryOn_210 (t : Int) x2 x4 (k : Int) U = some (.inl (((k + 1 : Nat) : Int), st2 U 220 k (bs.getD k 0))) := by
        unfold b_X16_queryOn_210
        rw [v156, hF.vI (by decide), h78, w32_nn (by omega), w32_nn (by omega), if_pos (by omega), c290m, cadd, l2_n (by omega) (by omega), g, Option.bind_some, s2_n (by omega) (by omega), Option.bind_some]
        rfl
      rw [lpN_cnt (b := fun s : Int × VV => b_X16_queryOn_210 (t : Int) x2 x4 s.1 s.2) (s := ((k : Int), U)) st]
      refine ih (k + 1) f _ (by omega) (by omega) (fun i hi => ?_) (hF.trans (FrS_st (P := fun a _ => a = 220) rfl))
      rw [vI_st2]
      by_cases c : i = k
      · rw [if_pos ⟨rfl, c⟩, c, ← g, w32_vI]
      · rw [if_neg (fun z => c z.2)]; exact hB i (by omega)
  unfold l_X16_queryOn_210
  obtain ⟨U, a1, a2, a3⟩ := loop bs.length 0 FU V (by omega) (by unfold FU; omega) (fun i hi => by omega) FrS.refl
  exact ⟨U, a1, ⟨by rw [a3.vI (by decide)]; exact h79, by rw [a3.vI (by decide)]; exact h78, hok, a2⟩, a3⟩
/-- those that are to be checked -/
theorem v_chunk {x1 x2 x3 x4 x5 : Int} {f n0 : Nat} {L : List It} (ht : t < 44) (hx : x1 = (t : Int)) (h264 : vI V 264 t = (f : Int)) (hL : LiV V t L) (hl : L.length ≤ 200) (hn : n0 ≤ 30) (hf : f + n0 ≤ L.length) (h88 : vI V 156 88 = (n0 : Int)) : ∃ U, l_X16_queryOn_422 x1 x2 x3 x4 x5 (n0 : Int) 0 V = j_X16_queryOn_489 x1 x2 x3 x4 x5 (n0 : Int) U ∧ ChkV U (((L.drop f).take n0).map od) ∧ FrS (fun a _ => a = 224 ∨ a = 225) V U := by
  subst hx
  have loop : ∀ d k fu (U : VV), d + k = n0 → d < fu → (∀ i, i < k → vI U 224 i = (L.getD (f + i) it0).1 ∧ vI U 225 i = (L.getD (f + i) it0).2.1) → FrS (fun a _ => a = 224 ∨ a = 225) V U → ∃ U', lpN (fun s : Int × VV => b_X16_queryOn_422 (t : Int) x2 x3 x4 x5 (n0 : Int) s.1 s.2) fu ((k : Int), U) = j_X16_queryOn_489 (t : Int) x2 x3 x4 x5 (n0 : Int) U' ∧ (∀ i, i < n0 → vI U' 224 i = (L.getD (f + i) it0).1 ∧ vI U' 225 i = (L.getD (f + i) it0).2.1) ∧ FrS (fun a _ => a = 224 ∨ a = 225) V U' := by
    intro d
    induction d with
    | zero =>
      intro k fu U hd hf hB hF
      have e : k = n0 := by omega
      subst e
      refine ⟨U, lpN_end (b := fun s : Int × VV => b_X16_queryOn_422 (t : Int) x2 x3 x4 x5 (k : Int) s.1 s.2) (by omega) ?_, hB, hF⟩
      dsimp only
      unfold b_X16_queryOn_422
      rw [if_neg (by omega)]
    | succ d ih =>
      intro k fu U hd hf' hB hF
      obtain ⟨g, rfl⟩ : ∃ g, fu = g + 1 := ⟨fu - 1, by omega⟩
      have e := hL.2 (f + k) (by omega)
      have g1 : vI V 259 (200 * t + (f + k)) = (L.getD (f + k) it0).1 := congrArg Prod.fst e
      have g2 : vI V 260 (200 * t + (f + k)) = (L.getD (f + k) it0).2.1 := congrArg (fun w => w.2.1) e
      have st : b_X16_queryOn_422 (t : Int) x2 x3 x4 x5 (n0 : Int) (k : Int) U = some (.inl (((k + 1 : Nat) : Int), st2 (st2 U 224 k (L.getD (f + k) it0).1) 225 k (L.getD (f + k) it0).2.1)) := by
        unfold b_X16_queryOn_422
        rw [w32_nn (by omega), w32_nn (by omega), if_pos (by omega), l2_n ht (by omega), hF.vI (by decide), h264, Option.bind_some, c200m, cadd, cadd, l2_n (by omega) (by omega), hF.vI (by decide), show 200 * t + f + k = 200 * t + (f + k) by omega, g1, Option.bind_some, s2_n (by omega) (by omega), Option.bind_some, l2_n ht (by omega), vI_ne (by omega), hF.vI (by decide), h264, Option.bind_some, cadd, cadd, l2_n (by omega) (by omega), vI_ne (by omega), hF.vI (by decide), show 200 * t + f + k = 200 * t + (f + k) by omega, g2, Option.bind_some, s2_n (by omega) (by omega), Option.bind_some]
        rfl
      rw [lpN_cnt (b := fun s : Int × VV => b_X16_queryOn_422 (t : Int) x2 x3 x4 x5 (n0 : Int) s.1 s.2) (s := ((k : Int), U)) st]
      refine ih (k + 1) g _ (by omega) (by omega) (fun i hi => ?_) (hF.trans (FrS.trans (FrS_st (P := fun a _ => a = 224 ∨ a = 225) (Or.inl rfl)) (FrS_st (P := fun a _ => a = 224 ∨ a = 225) (Or.inr rfl))))
      rw [vI_ne (by omega), vI_st2, vI_st2, vI_ne (by omega)]
      by_cases c : i = k
      · rw [if_pos ⟨rfl, c⟩, if_pos ⟨rfl, c⟩, c, ← g1, ← g2, w32_vI, w32_vI]; exact ⟨rfl, rfl⟩
      · rw [if_neg (fun z => c z.2), if_neg (fun z => c z.2)]; exact hB i (by omega)
  unfold l_X16_queryOn_422
  obtain ⟨U, a1, a2, a3⟩ := loop n0 0 FU V (by omega) (by unfold FU; omega) (fun i hi => by omega) FrS.refl
  have len : (((L.drop f).take n0).map od).length = n0 := by rw [List.length_map, List.length_take, List.length_drop]; omega
  refine ⟨U, a1, ⟨by rw [len, a3.vI (by decide)]; exact h88, by omega, fun i hi => ?_⟩, a3⟩
  rw [len] at hi
  have : (((L.drop f).take n0).map od).getD i (0, 0) = od (L.getD (f + i) it0) := by
    rw [List.getD_eq_getElem?_getD, List.getElem?_map, List.getElem?_take_of_lt hi, List.getElem?_drop, List.getElem?_eq_getElem (by omega), gd_get (by omega)]
    rfl
  rw [this]
  exact a2 i hi
/-- they come to the body -/
theorem v_chunkBody {x1 x3 x4 : Int} {cl : List (Int × Int)} (hC : ChkV V cl) (hok : ∀ z, z ∈ cl → (0 ≤ z.1 ∧ z.1 < 256) ∧ (0 ≤ z.2 ∧ z.2 < 256)) (hb : BodyV V l) (hl : l.length + 60 ≤ 325) : ∃ U, l_X16_queryOn_535 x1 x3 x4 ((cl.length : Nat) : Int) 0 V = j_X16_queryOn_570 x1 x3 x4 U ∧ BodyV U (l ++ cl.flatMap (fun z => [z.1, z.2])) ∧ FrS PB V U := by
  have l30 := hC.2.1
  have fl : ∀ k, k ≤ cl.length → ((cl.take k).flatMap (fun z => [z.1, z.2])).length = 2 * k := fun k hk => by
    induction k with
    | zero => rfl
    | succ k ih => rw [flat_take _ (0, 0) (by omega), List.length_append, ih (by omega)]; show 2 * k + 2 = _; omega
  have loop : ∀ d k fu (U : VV), d + k = cl.length → d < fu → BodyV U (l ++ (cl.take k).flatMap (fun z => [z.1, z.2])) → FrS PB V U → ∃ U', lpN (fun s : Int × VV => b_X16_queryOn_535 x1 x3 x4 ((cl.length : Nat) : Int) s.1 s.2) fu ((k : Int), U) = j_X16_queryOn_570 x1 x3 x4 U' ∧ BodyV U' (l ++ cl.flatMap (fun z => [z.1, z.2])) ∧ FrS PB V U' := by
    intro d
    induction d with
    | zero =>
      intro k fu U hd hf hB hF
      have e : k = cl.length := by omega
      subst e
      rw [List.take_of_length_le (Nat.le_refl _)] at hB
      refine ⟨U, lpN_end (b := fun s : Int × VV => b_X16_queryOn_535 x1 x3 x4 ((cl.length : Nat) : Int) s.1 s.2) (by omega) ?_, hB, hF⟩
      dsimp only
      unfold b_X16_queryOn_535
      rw [if_neg (by omega)]
    | succ d ih =>
      intro k fu U hd hf hB hF
      obtain ⟨f, rfl⟩ : ∃ f, fu = f + 1 := ⟨fu - 1, by omega⟩
      obtain ⟨z, hz⟩ : ∃ z, z = cl.getD k (0, 0) := ⟨_, rfl⟩
      obtain ⟨z1, z2⟩ := hC.2.2 k (by omega)
      rw [← hz] at z1 z2
      have zo := hok z (by rw [hz]; exact getD_mem (by omega))
      have l2 := fl k (by omega)
      obtain ⟨U1, a1, a2, a3⟩ := body_app (v := z.1) hB (by rw [List.length_append, l2]; omega) zo.1
      obtain ⟨U2, b1, b2, b3⟩ := body_app (v := z.2) a2 (by rw [List.length_append, List.length_append, l2]; show _ + 1 < 325; omega) zo.2
      have st : b_X16_queryOn_535 x1 x3 x4 ((cl.length : Nat) : Int) (k : Int) U = some (.inl (((k + 1 : Nat) : Int), U2)) := by
        unfold b_X16_queryOn_535
        rw [w32_nn (by omega), w32_nn (by omega), if_pos (by omega), l2_n (by omega) (by omega), hF.vI (by unfold PB; omega), z1, Option.bind_some, a1, Option.bind_some, l2_n (by omega) (by omega), a3.vI (by unfold PB; omega), hF.vI (by unfold PB; omega), z2, Option.bind_some, b1, Option.bind_some]
        rfl
      rw [lpN_cnt (b := fun s : Int × VV => b_X16_queryOn_535 x1 x3 x4 ((cl.length : Nat) : Int) s.1 s.2) (s := ((k : Int), U)) st]
      refine ih (k + 1) f U2 (by omega) (by omega) ?_ ((hF.trans a3).trans b3)
      rw [flat_take _ (0, 0) (by omega), ← hz]
      have : l ++ ((cl.take k).flatMap (fun z => [z.1, z.2]) ++ [z.1, z.2]) = l ++ (cl.take k).flatMap (fun z => [z.1, z.2]) ++ [z.1] ++ [z.2] := by simp
      rw [this]; exact b2
  unfold l_X16_queryOn_535
  exact loop cl.length 0 FU V (by omega) (by unfold FU; omega) (by rw [List.take_zero, List.flatMap_nil, List.append_nil]; exact hb) FrS.refl
end VQON
