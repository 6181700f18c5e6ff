/-! the reference answers -/
theorem m9_of {P : Nat → Nat → Prop} {V W : VV} (f : FrS P V W) (h : ∀ a i, P a i → mv a i = 9) : FrV m9 V W := f.fr (fun a i z => by rw [h a i z]; rfl)
theorem PO_9 (a i : Nat) (h : PO a i) : mv a i = 9 := by
  rcases h with e | e
  · rw [e]; rfl
  · rw [e.1, e.2]; rfl
theorem PN_9 (a i : Nat) (h : PN a i) : mv a i = 9 := by
  rcases h with e | e | e | e
  · rw [e]; rfl
  · rw [e]; rfl
  · rw [e.1, e.2]; rfl
  · exact PO_9 a i e
theorem PFl_9 (a i : Nat) (h : PFl a i) : mv a i = 9 := by
  rcases h with e | e | e
  · have : a = 159 ∨ a = 160 ∨ a = 161 := by omega
    rcases this with z | z | z <;> rw [z] <;> rfl
  · rw [e]; rfl
  · have : i = 78 ∨ i = 79 ∨ i = 80 ∨ i = 81 ∨ i = 82 := by omega
    rw [e.1]
    rcases this with z | z | z | z | z <;> rw [z] <;> rfl
theorem PM_9 (a i : Nat) (h : PM a i) : mv a i = 9 := by
  rcases h with e | e | e | e
  · have : a = 159 ∨ a = 160 ∨ a = 161 := by omega
    rcases this with z | z | z <;> rw [z] <;> rfl
  · have : a = 221 ∨ a = 222 ∨ a = 223 := by omega
    rcases this with z | z | z <;> rw [z] <;> rfl
  · rw [e]; rfl
  · have : i = 72 ∨ i = 81 ∨ i = 82 ∨ i = 83 ∨ i = 84 := by omega
    rw [e.1]
    rcases this with z | z | z | z | z <;> rw [z] <;> rfl
theorem PT_9 (a i : Nat) (h : PT a i) : mv a i = 9 := by
  rcases h with e | e
  · have : a = 221 ∨ a = 222 ∨ a = 223 := by omega
    rcases this with z | z | z <;> rw [z] <;> rfl
  · rw [e.1]
    rcases e.2 with z | z <;> rw [z] <;> rfl
theorem Fb_9 {A c : Nat} {V W : VV} (f : Fb A c V W) (hA : ∀ i, mv A i = 9) (hc : mv 156 c = 9) : FrV m9 V W := fun a i h => f a i (fun z => by rw [z, hA i] at h; exact absurd h (by decide)) (fun z => by rw [z.1, z.2, hc] at h; exact absurd h (by decide))
section VANS2
variable {V W : VV} {m al N p i h9 : Nat} {own : Nat → Ky} {sd ps sn pu rf : Nat → Int} {tm ad : Int} {w : Wd} {L Z : Nat} {l ol : List Int} {T : List Row} {S : List Post} {ow : Ky}
theorem tab_m9 (f : FrV m9 V W) (h : TabV V p ow T Z) : TabV W p ow T Z := by
  have g : ∀ a i, (189 ≤ a ∧ a ≤ 194) → vI W a i = vI V a i := fun a i ha => fv f (by
    have : mv a i = 2 := by unfold mv mvA; rw [if_neg (by omega), if_neg (by omega), if_pos ha]
    rw [this]; rfl)
  obtain ⟨h1, h2, TS, t1, t2, t3, t4⟩ := h
  refine ⟨by rw [g 189 p (by omega)]; exact h1, h2, TS, t1, t2, t3, ?_⟩
  have : rowsV W p T.length = rowsV V p T.length := rws_congr (fun i _ => by
    unfold gR
    rw [g 191 _ (by omega), g 192 _ (by omega), g 193 _ (by omega), g 194 _ (by omega), gk_ext (fun i _ => g 190 _ (by omega))])
  rw [this]; exact t4
theorem st_m9 (f : FrV m9 V W) (h : StV V p S) : StV W p S := by
  have g : ∀ a i, (210 ≤ a ∧ a ≤ 215) → vI W a i = vI V a i := fun a i ha => fv f (by
    have : mv a i = 3 := by unfold mv mvA; rw [if_neg (by omega), if_neg (by omega), if_neg (by omega), if_pos ha]
    rw [this]; rfl)
  exact st_ag h (g 210 p (by omega)) (fun j _ => gP_ext (gk_ext (fun i _ => g 211 _ (by omega))) (g 212 _ (by omega)) (g 213 _ (by omega)) (g 214 _ (by omega)) (g 215 _ (by omega)))
theorem m273 : mA 273 5 := ⟨by decide, by decide, by decide, by decide, by decide⟩
/-- NODES, after a pair or without -/
theorem va_nodes (hT : TabV V p ow T Z) (hp : p < 32) (hk0 : vI V 156 0 = (m : Int)) (hk : 1 ≤ m ∧ m ≤ 20) (hI : InV V l) (hb : isBL l) (hl : 45 ≤ l.length) (ho : OutV V ol) (hol : ol.length + 1 + 21 * m ≤ 460) (hta : ∀ x, x ∈ T → 0 ≤ x.2.1 ∧ x.2.1 < 32) : ∃ U, f_X16_tellNodes (p : Int) V = some U ∧ OutV U (ol ++ nodesB ((nearT m (kyP l 25) (some (gk V 272 0)) T).map kad)) ∧ FrV m9 V U := by
  obtain ⟨U, e1, e2, e3⟩ := v_tellNodes hT hp hk0 hk hI hb hl ho hol hta
  exact ⟨U, e1, e2, m9_of e3 PN_9⟩
/-- those of a key are chosen -/
theorem va_choose (hS : StV V p S) (hp : p < 32) : ∃ U Ls, f_X16_choose (p : Int) 273 0 V = some U ∧ w32 (U 156 72) = (((choS (gk V 273 0) S).length : Nat) : Int) ∧ vI U 156 72 = ((Ls.length : Nat) : Int) ∧ ArrN U 216 Ls ∧ (∀ r, r ∈ Ls → r < 6400) ∧ Ls.map (gP U) = choS (gk V 273 0) S ∧ Ls.length ≤ 200 ∧ FrV m9 V U ∧ Fb 216 72 V U := by
  obtain ⟨U, Ls, e1, e2, e3, e4, e5, e6⟩ := v_choose (e := 273) (q := 0) (n := 5) hS hp m273 (by decide) (by decide) (by decide)
  have f := Fb_9 e2 (fun i => rfl) rfl
  have lc : Ls.length = (choS (gk V 273 0) S).length := by rw [← e6, List.length_map]
  have ls := hS.2.1.1
  have l2 : (choS (gk V 273 0) S).length ≤ S.length := List.length_filter_le _ _
  refine ⟨U, Ls, e1, by rw [← lc]; exact e3, e3, e4, fun r hr => ?_, ?_, by omega, f, e2⟩
  · obtain ⟨j, j1, j2⟩ := e5 r hr; omega
  · rw [← e6]
    refine List.map_congr_left (fun r hr => ?_)
    have g : ∀ a i, a ≠ 216 → a ≠ 156 → vI U a i = vI V a i := fun a i x y => by show w32 _ = w32 _; rw [e2 a i x (fun z => y z.1)]
    exact gP_ext (gk_ext (fun i _ => g 211 _ (by decide) (by decide))) (g 212 _ (by decide) (by decide)) (g 213 _ (by decide) (by decide)) (g 214 _ (by decide) (by decide)) (g 215 _ (by decide) (by decide))
/-- the bytes of a filter -/
theorem va_bytes {bs : List Int} {h : Nat} (hf : FltV V h bs) (ho : OutV V ol) (hl : ol.length + bs.length ≤ 460) (p : Nat) (ad : Int) : ∃ U, l_X16_answer_231 (p : Int) ad 0 V = j_X16_answer_398 (p : Int) ad U ∧ OutV U (ol ++ bs) ∧ FrS PO V U := by
  have lb := hf.2.2.1.1
  have loop : ∀ d j fu (U : VV), d + j = bs.length → d < fu → FrS PO V U → OutV U (ol ++ bs.take j) → ∃ U', lpN (fun s : Int × VV => b_X16_answer_231 (p : Int) ad s.1 s.2) fu ((j : Int), U) = j_X16_answer_398 (p : Int) ad U' ∧ OutV U' (ol ++ bs) ∧ FrS PO V U' := by
    intro d
    induction d with
    | zero =>
      intro j fu U hd hf' hU hO
      have e : j = bs.length := by omega
      subst e
      rw [List.take_of_length_le (by omega)] at hO
      refine ⟨U, ?_, hO, hU⟩
      refine lpN_end (b := fun s : Int × VV => b_X16_answer_231 (p : Int) ad s.1 s.2) (by omega) ?_
      dsimp only
      unfold b_X16_answer_231 j_X16_answer_257
      have : w32 (U 156 78) = ((bs.length : Nat) : Int) := (hU.vI (a := 156) (i := 78) (by unfold PO; omega)).trans hf.2.1
      rw [this, if_neg (by omega)]
    | succ d ih =>
      intro j fu U hd hf' hU hO
      obtain ⟨f, rfl⟩ : ∃ f, fu = f + 1 := ⟨fu - 1, by omega⟩
      have u78 : w32 (U 156 78) = ((bs.length : Nat) : Int) := (hU.vI (a := 156) (i := 78) (by unfold PO; omega)).trans hf.2.1
      have u220 : vI U 220 j = bs.getD j 0 := (hU.vI (a := 220) (i := j) (by unfold PO; omega)).trans (hf.2.2.2 j (by omega))
      have bj := okB_get (j := j) hf.2.2.1
      obtain ⟨U1, c1, c2, c3, c4⟩ := v_byteOut (x := bs.getD j 0) (y := bs.getD j 0) hO (by rw [List.length_append, List.length_take]; omega) (bd255 (by omega)) (by omega)
      have st : b_X16_answer_231 (p : Int) ad (j : Int) U = some (.inl (((j + 1 : Nat) : Int), U1)) := by
        unfold b_X16_answer_231
        rw [u78, w32_nn (by omega), w32_nn (by omega), if_pos (by omega), l2_e (w32_nn (by omega)) (by omega), u220, Option.bind_some, c1, Option.bind_some]
        rfl
      rw [lpN_cnt (b := fun s : Int × VV => b_X16_answer_231 (p : Int) ad s.1 s.2) (s := ((j : Int), U)) st]
      refine ih (j + 1) f U1 (by omega) (by omega) (hU.trans (byteOut_fr c1)) ?_
      rw [take_s (d := 0) (by omega), ← List.append_assoc]
      exact c2
  exact loop bs.length 0 FU V (by omega) (by unfold FU; omega) FrS.refl (by rw [List.take_zero, List.append_nil]; exact ho)
/-- what is to be checked is read -/
theorem va_checks {n : Nat} (hI : InV V l) (hb : isBL l) (hn : l.getD 45 0 = (n : Int)) (hn30 : n ≤ 30) (hl : 46 + 2 * n ≤ l.length) (h88 : vI V 156 88 = (n : Int)) (p : Nat) (ad : Int) : ∃ U, l_X16_answer_331 (p : Int) ad 0 V = j_X16_answer_384 (p : Int) ad U ∧ ChkV U (rdC l 46 n) ∧ FrS (fun a _ => a = 224 ∨ a = 225) V U := by
  have h460 := hI.2.1
  have loop : ∀ d j fu (U : VV), d + j = n → d < fu → FrS (fun a _ => a = 224 ∨ a = 225) V U → (∀ k, k < j → vI U 224 k = l.getD (46 + 2 * k) 0 ∧ vI U 225 k = l.getD (46 + 2 * k + 1) 0) → ∃ U', lpN (fun s : Int × VV => b_X16_answer_331 (p : Int) ad s.1 s.2) fu ((j : Int), U) = j_X16_answer_384 (p : Int) ad U' ∧ FrS (fun a _ => a = 224 ∨ a = 225) V U' ∧ ∀ k, k < n → vI U' 224 k = l.getD (46 + 2 * k) 0 ∧ vI U' 225 k = l.getD (46 + 2 * k + 1) 0 := by
    intro d
    induction d with
    | zero =>
      intro j fu U hd hf' hU hO
      have e : j = n := by omega
      subst e
      refine ⟨U, ?_, hU, hO⟩
      refine lpN_end (b := fun s : Int × VV => b_X16_answer_331 (p : Int) ad s.1 s.2) (by omega) ?_
      dsimp only
      unfold b_X16_answer_331
      have : w32 (U 156 88) = (j : Int) := (hU.vI (a := 156) (i := 88) (by omega)).trans h88
      rw [this, if_neg (by omega)]
    | succ d ih =>
      intro j fu U hd hf' hU hO
      obtain ⟨f, rfl⟩ : ∃ f, fu = f + 1 := ⟨fu - 1, by omega⟩
      have u88 : w32 (U 156 88) = (n : Int) := (hU.vI (a := 156) (i := 88) (by omega)).trans h88
      have r1 : vI U 271 (46 + 2 * j) = l.getD (46 + 2 * j) 0 := (hU.vI (a := 271) (by omega)).trans (InV_get hI hb (by omega)).1
      have r2 : vI (st2 U 224 j (l.getD (46 + 2 * j) 0)) 271 (46 + 2 * j + 1) = l.getD (46 + 2 * j + 1) 0 := by
        rw [vI_st2, if_neg (by omega)]
        exact (hU.vI (a := 271) (by omega)).trans (InV_get hI hb (by omega)).1
      have b1 := (InV_get hI hb (i := 46 + 2 * j) (by omega)).2
      have b2 := (InV_get hI hb (i := 46 + 2 * j + 1) (by omega)).2
      have st : b_X16_answer_331 (p : Int) ad (j : Int) U = some (.inl (((j + 1 : Nat) : Int), st2 (st2 U 224 j (l.getD (46 + 2 * j) 0)) 225 j (l.getD (46 + 2 * j + 1) 0))) := by
        unfold b_X16_answer_331
        rw [u88, w32_nn (by omega), w32_nn (by omega), if_pos (by omega), l2_e (j := 46 + 2 * j) (by rw [w32_id (by omega) (by omega)]; omega) (by omega), r1, Option.bind_some, s2_e (w32_nn (by omega)) (by omega), Option.bind_some, l2_e (j := 46 + 2 * j + 1) (by rw [w32_id (by omega) (by omega)]; omega) (by omega), r2, Option.bind_some, s2_e (w32_nn (by omega)) (by omega), Option.bind_some]
        rfl
      rw [lpN_cnt (b := fun s : Int × VV => b_X16_answer_331 (p : Int) ad s.1 s.2) (s := ((j : Int), U)) st]
      refine ih (j + 1) f _ (by omega) (by omega) ((hU.trans (FrS_st (P := fun a _ => a = 224 ∨ a = 225) (Or.inl rfl))).trans (FrS_st (P := fun a _ => a = 224 ∨ a = 225) (Or.inr rfl))) (fun k hk => ?_)
      rw [vI_st2, if_neg (by omega), vI_st2, vI_st2, vI_st2]
      by_cases c : k = j
      · subst c
        rw [if_pos ⟨rfl, rfl⟩, if_pos ⟨rfl, rfl⟩, w32_id (by omega) (by omega), w32_id (by omega) (by omega)]
        exact ⟨rfl, rfl⟩
      · rw [if_neg (by omega), if_neg (by omega), if_neg (by omega)]
        exact hO k (by omega)
  obtain ⟨U, u1, u2, u3⟩ := loop n 0 FU V (by omega) (by unfold FU; omega) FrS.refl (fun k hk => by omega)
  refine ⟨U, u1, ⟨by rw [u2.vI (by omega), h88, rdC_len], by rw [rdC_len]; exact hn30, fun i hi => ?_⟩, u2⟩
  rw [rdC_len] at hi
  rw [rdC_get hi]
  exact u3 i hi
/-- what is to be stored is read -/
theorem va_stores {n : Nat} (hI : InV V l) (hb : isBL l) (hn16 : n ≤ 16) (hl : 46 + 3 * n ≤ l.length) (h74 : vI V 156 74 = (n : Int)) (p : Nat) (ad x3 : Int) : ∃ U, l_X16_answer_42 (p : Int) ad x3 0 V = j_X16_answer_114 (p : Int) ad x3 U ∧ ItV U (rdI l 46 n) ∧ FrS (fun a _ => 217 ≤ a ∧ a ≤ 219) V U := by
  have h460 := hI.2.1
  have loop : ∀ d j fu (U : VV), d + j = n → d < fu → FrS (fun a _ => 217 ≤ a ∧ a ≤ 219) V U → (∀ k, k < j → vI U 217 k = l.getD (46 + 3 * k) 0 ∧ vI U 218 k = l.getD (46 + 3 * k + 1) 0 ∧ vI U 219 k = l.getD (46 + 3 * k + 2) 0) → ∃ U', lpN (fun s : Int × VV => b_X16_answer_42 (p : Int) ad x3 s.1 s.2) fu ((j : Int), U) = j_X16_answer_114 (p : Int) ad x3 U' ∧ FrS (fun a _ => 217 ≤ a ∧ a ≤ 219) V U' ∧ ∀ k, k < n → vI U' 217 k = l.getD (46 + 3 * k) 0 ∧ vI U' 218 k = l.getD (46 + 3 * k + 1) 0 ∧ vI U' 219 k = l.getD (46 + 3 * k + 2) 0 := by
    intro d
    induction d with
    | zero =>
      intro j fu U hd hf' hU hO
      have e : j = n := by omega
      subst e
      refine ⟨U, ?_, hU, hO⟩
      refine lpN_end (b := fun s : Int × VV => b_X16_answer_42 (p : Int) ad x3 s.1 s.2) (by omega) ?_
      dsimp only
      unfold b_X16_answer_42
      have : w32 (U 156 74) = (j : Int) := (hU.vI (a := 156) (i := 74) (by omega)).trans h74
      rw [this, if_neg (by omega)]
    | succ d ih =>
      intro j fu U hd hf' hU hO
      obtain ⟨f, rfl⟩ : ∃ f, fu = f + 1 := ⟨fu - 1, by omega⟩
      have u74 : w32 (U 156 74) = (n : Int) := (hU.vI (a := 156) (i := 74) (by omega)).trans h74
      have r : ∀ k, k < l.length → vI U 271 k = l.getD k 0 := fun k hk => (hU.vI (a := 271) (by omega)).trans (InV_get hI hb hk).1
      have b1 := (InV_get hI hb (i := 46 + 3 * j) (by omega)).2
      have b2 := (InV_get hI hb (i := 46 + 3 * j + 1) (by omega)).2
      have b3 := (InV_get hI hb (i := 46 + 3 * j + 2) (by omega)).2
      obtain ⟨U1, hU1⟩ : ∃ U1, U1 = st2 U 217 j (l.getD (46 + 3 * j) 0) := ⟨_, rfl⟩
      obtain ⟨U2, hU2⟩ : ∃ U2, U2 = st2 U1 218 j (l.getD (46 + 3 * j + 1) 0) := ⟨_, rfl⟩
      have r1 : ∀ k, k < l.length → vI U1 271 k = l.getD k 0 := fun k hk => by rw [hU1, vI_st2, if_neg (by omega)]; exact r k hk
      have r2 : ∀ k, k < l.length → vI U2 271 k = l.getD k 0 := fun k hk => by rw [hU2, vI_st2, if_neg (by omega)]; exact r1 k hk
      have st : b_X16_answer_42 (p : Int) ad x3 (j : Int) U = some (.inl (((j + 1 : Nat) : Int), st2 U2 219 j (l.getD (46 + 3 * j + 2) 0))) := by
        unfold b_X16_answer_42
        rw [u74, w32_nn (by omega), w32_nn (by omega), if_pos (by omega), l2_e (j := 46 + 3 * j) (by rw [w32_id (by omega) (by omega)]; omega) (by omega), r _ (by omega), Option.bind_some, s2_e (w32_nn (by omega)) (by omega), Option.bind_some, ← hU1, l2_e (j := 46 + 3 * j + 1) (by rw [w32_id (by omega) (by omega)]; omega) (by omega), r1 _ (by omega), Option.bind_some, s2_e (w32_nn (by omega)) (by omega), Option.bind_some, ← hU2, l2_e (j := 46 + 3 * j + 2) (by rw [w32_id (by omega) (by omega)]; omega) (by omega), r2 _ (by omega), Option.bind_some, s2_e (w32_nn (by omega)) (by omega), Option.bind_some]
        rfl
      rw [lpN_cnt (b := fun s : Int × VV => b_X16_answer_42 (p : Int) ad x3 s.1 s.2) (s := ((j : Int), U)) st]
      refine ih (j + 1) f _ (by omega) (by omega) (by
        rw [hU2, hU1]
        exact ((hU.trans (FrS_st (P := fun a _ => 217 ≤ a ∧ a ≤ 219) (by omega))).trans (FrS_st (P := fun a _ => 217 ≤ a ∧ a ≤ 219) (by omega))).trans (FrS_st (P := fun a _ => 217 ≤ a ∧ a ≤ 219) (by omega))) (fun k hk => ?_)
      refine ⟨?_, ?_, ?_⟩
      · rw [vI_st2, if_neg (by omega), hU2, vI_st2, if_neg (by omega), hU1, vI_st2]
        by_cases c : k = j
        · rw [if_pos ⟨rfl, c⟩, c, w32_id (by omega) (by omega)]
        · rw [if_neg (by omega)]; exact (hO k (by omega)).1
      · rw [vI_st2, if_neg (by omega), hU2, vI_st2]
        by_cases c : k = j
        · rw [if_pos ⟨rfl, c⟩, c, w32_id (by omega) (by omega)]
        · rw [if_neg (by omega), hU1, vI_st2, if_neg (by omega)]; exact (hO k (by omega)).2.1
      · rw [vI_st2]
        by_cases c : k = j
        · rw [if_pos ⟨rfl, c⟩, c, w32_id (by omega) (by omega)]
        · rw [if_neg (by omega), hU2, vI_st2, if_neg (by omega), hU1, vI_st2, if_neg (by omega)]; exact (hO k (by omega)).2.2
  obtain ⟨U, u1, u2, u3⟩ := loop n 0 FU V (by omega) (by unfold FU; omega) FrS.refl (fun k hk => by omega)
  have rl : (rdI l 46 n).length = n := by unfold rdI; rw [List.length_map, List.length_range]
  refine ⟨U, u1, ⟨by rw [u2.vI (by omega), h74, rl], fun i hi => ?_⟩, u2⟩
  rw [rl] at hi
  rw [rdI_get hi]
  exact u3 i hi
end VANS2
