/-! lookups of the works: target, whether for values, what is known, how many are asked -/
abbrev LkA : Type := Ky × Bool × List Ent × Int
def LksV (V : VV) (lk : Nat → LkA) (tn : Nat → Nat) : Prop := ∀ t, t < 44 → EnV V t (lk t).1 (lk t).2.2.1 ∧ vI V 233 t = b2i (lk t).2.1 ∧ vI V 239 t = (lk t).2.2.2 ∧ vI V 231 t = (tn t : Int)
/-- what a lookup knows as it begins -/
def begE (m : Nat) (ow : Ky) (p : Nat) (T : List Row) (key : Ky) : List Ent := ((nearT m key none T).map kad).foldl (fun E x => addE key E (x.1, x.2, 0, 0)) (addE key [] (ow, (p : Int), 2, 0))
/-- a turn more of a work -/
def dtW (t : Nat) (w : Wd) : Wd := setQ w (fun p => (wQ w p).map (dtQ t))
theorem dtQ_dtQ {t : Nat} {y : Rq} : dtQ t (dtQ t y) = dtQ t y := by
  unfold dtQ
  have : qWrk (qNum y, qAdr y, qTyp y, qDdl y, qSnt y, qKey y, qByt y, (if qWrk y = some t then none else qWrk y), qPrb y) = if qWrk y = some t then none else qWrk y := rfl
  rw [this]
  by_cases c : qWrk y = some t
  · rw [if_pos c, if_neg (by simp)]; rfl
  · rw [if_neg c, if_neg c]; rfl
theorem dtW_dtW {t : Nat} {w : Wd} : dtW t (dtW t w) = dtW t w := by
  unfold dtW setQ
  congr 5
  congr 1
  funext p
  show ((wQ w p).map (dtQ t)).map (dtQ t) = (wQ w p).map (dtQ t)
  rw [List.map_map]
  congr 1
  funext y
  exact dtQ_dtQ
section VLK
variable {V W : VV} {m al N p t : Nat} {own : Nat → Ky} {sd ps sn pu rf : Nat → Int} {tm : Int} {w : Wd} {L Z : Nat} {lk : Nat → LkA} {tn : Nat → Nat} {e q n : Nat} {vals : Bool}
theorem LksV_ag (h : LksV V lk tn) (g : ∀ a i, (231 ≤ a ∧ a ≤ 239) → vI W a i = vI V a i) : LksV W lk tn := fun t ht => by
  obtain ⟨h1, h2, h3, h4⟩ := h t ht
  refine ⟨en_ag h1 (g 234 t (by omega)) (gk_ext (fun i _ => g 232 _ (by omega))) (fun j _ => gE_ext (gk_ext (fun i _ => g 235 _ (by omega))) (g 236 _ (by omega)) (g 237 _ (by omega)) (g 238 _ (by omega))), by rw [g 233 t (by omega)]; exact h2, by rw [g 239 t (by omega)]; exact h3, by rw [g 231 t (by omega)]; exact h4⟩
theorem vp_turn (h : VP V m al N own sd ps sn pu rf tm w L Z) (ht : t < 44) (h231 : vI V 231 t = (tn t : Int)) (htn : tn t < 2000000000) : VP (st2 V 231 t ((tn t : Int) + 1)) m al N own sd ps sn pu rf tm (dtW t w) L Z := by
  obtain ⟨h1, h2, h3, h4, h5, h6, h7, h8⟩ := h
  have f : FrV (fun z => z == 6) V (st2 V 231 t ((tn t : Int) + 1)) := FrV_st rfl
  exact ⟨VNet_fr f (by decide) h1, PV_frV f (by decide) h2, tabs_frV f (by decide) h3, sts_frV f (by decide) h4, rq_turn h5 ht (by rw [h231, w32_id (by omega) (by omega)]; omega), by rw [fv f (show (fun z => z == 6) (mv 156 0) = false from rfl)]; exact h6, by rw [fv f (show (fun z => z == 6) (mv 156 1) = false from rfl)]; exact h7, h8⟩
/-- arrays of the works that don't touch the peers' part -/
theorem vp_w6 (h : VP V m al N own sd ps sn pu rf tm w L Z) (g : ∀ a i, ¬ ((226 ≤ a ∧ a ≤ 270 ∧ a ≠ 231) ∨ mv a i = 9) → W a i = V a i) : VP W m al N own sd ps sn pu rf tm w L Z := by
  obtain ⟨h1, h2, h3, h4, h5, h6, h7, h8⟩ := h
  have f : FrV (fun z => z == 6 || z == 8 || z == 9) V W := fun a i hz => g a i (fun q => by
    rcases q with q | q
    · have : mv a i = 6 ∨ mv a i = 8 ∨ mv a i = 9 := by
        unfold mv
        rw [if_neg (by omega)]
        unfold mvA
        rw [if_neg (by omega), if_neg (by omega), if_neg (by omega), if_neg (by omega), if_neg (by omega)]
        by_cases c1 : 226 ≤ a ∧ a ≤ 264 ∧ a ≠ 240
        · rw [if_pos c1]; exact Or.inl rfl
        · rw [if_neg c1]
          split
          · exact Or.inr (Or.inl rfl)
          · exact Or.inr (Or.inr rfl)
      rcases this with z | z | z <;> rw [z] at hz <;> exact absurd hz (by decide)
    · rw [q] at hz; exact absurd hz (by decide))
  have gv : ∀ a i, ¬ ((226 ≤ a ∧ a ≤ 270 ∧ a ≠ 231) ∨ mv a i = 9) → vI W a i = vI V a i := fun a i z => by show w32 _ = w32 _; rw [g a i z]
  refine ⟨VNet_fr f (by decide) h1, PV_frV f (by decide) h2, tabs_frV f (by decide) h3, sts_frV f (by decide) h4, rqs_ag h5 (fun a i z => gv a i (fun q => ?_)), by rw [gv 156 0 (by decide)]; exact h6, by rw [gv 156 1 (by decide)]; exact h7, h8⟩
  rcases q with q | q
  · omega
  · have : mv a i = 5 ∨ mv a i = 6 := by
      by_cases c : a = 231
      · right; rw [c]; rfl
      · left; exact mv5_i (by omega)
    omega
theorem LksV_ens (h : LksV V lk tn) : EnsV V (fun t => (lk t).1) (fun t => (lk t).2.2.1) := fun t ht => (h t ht).1
theorem m165k : mA 165 160 := m165
/-- a lookup begins -/
def PL (a i : Nat) : Prop := (230 ≤ a ∧ a ≤ 239) ∨ a = 195 ∨ a = 196 ∨ (a = 156 ∧ i = 50)
theorem v_beginLookup (h : VP V m al N own sd ps sn pu rf tm w L Z) (ho : okW N own tm w) (hk : LksV V lk tn) (ht : t < 44) (hp : p < N) (h228 : vI V 228 t = (p : Int)) (htn : tn t < 2000000000) (he : mA e n) (hq : q + 5 ≤ n) (hn : n ≤ 1000000) (hne : e < 230 ∨ 239 < e) :
    ∃ V', f_X16_beginLookup (t : Int) (e : Int) (q : Int) (b2i vals) V = some V' ∧ VP V' m al N own sd ps sn pu rf tm (dtW t w) L Z ∧ LksV V' (fup lk t (gk V e q, vals, begE m (own p) p (wT w p) (gk V e q), 0)) (fup tn t (tn t + 1)) ∧ vI V' 230 t = 1 ∧ (∀ t', t' ≠ t → vI V' 230 t' = vI V 230 t') ∧ FrS PL V V' := by
  have hN := h.2.1.2.1
  have p32 : p < 32 := by omega
  obtain ⟨key, hkey⟩ : ∃ key, key = gk V e q := ⟨_, rfl⟩
  rw [← hkey]
  have h231 := (hk t ht).2.2.2
  have hown : gk V 165 (5 * p) = own p := (h.2.1.2.2.1 p p32).1
  obtain ⟨V2, hV2⟩ : ∃ V2, V2 = st2 (st2 V 231 t ((tn t : Int) + 1)) 230 t 1 := ⟨_, rfl⟩
  obtain ⟨V6, hV6⟩ : ∃ V6, V6 = st2 (st2 (st2 (kput V2 232 (5 * t) e q) 233 t (b2i vals)) 234 t 0) 239 t 0 := ⟨_, rfl⟩
  have r2 : ∀ a i, vI V2 a i = if a = 230 ∧ i = t then 1 else if a = 231 ∧ i = t then ((tn t + 1 : Nat) : Int) else vI V a i := fun a i => by
    rw [hV2, vI_st2, vI_st2]
    by_cases c : a = 230 ∧ i = t
    · rw [if_pos c, if_pos c]; decide
    · rw [if_neg c, if_neg c]
      by_cases d : a = 231 ∧ i = t
      · rw [if_pos d, if_pos d, w32_id (by omega) (by omega)]; omega
      · rw [if_neg d, if_neg d]
  have k2 : ∀ q', gk V2 e q' = gk V e q' := fun q' => gk_ext (fun i _ => by rw [r2, if_neg (by omega), if_neg (by omega)])
  have r6 : ∀ a i, a ≠ 232 → vI V6 a i = if (a = 239 ∨ a = 234) ∧ i = t then 0 else if a = 233 ∧ i = t then b2i vals else if a = 230 ∧ i = t then 1 else if a = 231 ∧ i = t then ((tn t + 1 : Nat) : Int) else vI V a i := fun a i ha => by
    rw [hV6, vI_st2, vI_st2, vI_st2, kput_vI, if_neg (show ¬ (a = 232 ∧ 5 * t ≤ i ∧ i < 5 * t + 5) from fun z => ha z.1), r2]
    by_cases c1 : a = 239 ∧ i = t
    · rw [if_pos c1, if_pos ⟨Or.inl c1.1, c1.2⟩]; decide
    · rw [if_neg c1]
      by_cases c2 : a = 234 ∧ i = t
      · rw [if_pos c2, if_pos ⟨Or.inr c2.1, c2.2⟩]; decide
      · rw [if_neg c2, if_neg (show ¬ ((a = 239 ∨ a = 234) ∧ i = t) by omega)]
        by_cases c3 : a = 233 ∧ i = t
        · rw [if_pos c3, if_pos c3, w32_b2i]
        · rw [if_neg c3, if_neg c3]
  have g6 : ∀ t', gk V6 232 (5 * t') = if t' = t then key else gk V 232 (5 * t') := fun t' => by
    have e6 : gk V6 232 (5 * t') = gk (kput V2 232 (5 * t) e q) 232 (5 * t') := gk_ext (fun i _ => by rw [hV6, vI_st2, if_neg (by omega), vI_st2, if_neg (by omega), vI_st2, if_neg (by omega)])
    rw [e6]
    by_cases c : t' = t
    · subst c
      rw [if_pos rfl, hkey, ← k2 q]
      exact gk_ext (fun i hi => by rw [kput_vI, if_pos (by omega), show 5 * t' + i - 5 * t' = i by omega])
    · rw [if_neg c]
      exact gk_ext (fun i hi => by rw [kput_vI, if_neg (by omega), r2, if_neg (by omega), if_neg (by omega)])
  have kyk : kyo key := by rw [hkey]; exact gk_ok V e q
  have E6 : EnsV V6 (fup (fun t => (lk t).1) t key) (fup (fun t => (lk t).2.2.1) t []) := fun t' ht' => by
    obtain ⟨a1, a2, a3, a4⟩ := (hk t' ht').1
    by_cases c : t' = t
    · subst c
      rw [fup_eq, fup_eq]
      refine ⟨by rw [r6 _ _ (by decide), if_pos ⟨Or.inr rfl, rfl⟩]; rfl, by rw [g6, if_pos rfl], ⟨by decide, List.Pairwise.nil, fun x hx => by simp at hx⟩, List.Perm.refl _⟩
    · rw [fup_ne c, fup_ne c]
      have gg : ∀ r, gE V6 r = gE V r := fun r => gE_ext (gk_ext (fun i _ => by rw [r6 _ _ (by decide), if_neg (by omega), if_neg (by omega), if_neg (by omega), if_neg (by omega)])) (by rw [r6 _ _ (by decide), if_neg (by omega), if_neg (by omega), if_neg (by omega), if_neg (by omega)]) (by rw [r6 _ _ (by decide), if_neg (by omega), if_neg (by omega), if_neg (by omega), if_neg (by omega)]) (by rw [r6 _ _ (by decide), if_neg (by omega), if_neg (by omega), if_neg (by omega), if_neg (by omega)])
      refine ⟨by rw [r6 _ _ (by decide), if_neg (by omega), if_neg (by omega), if_neg (by omega), if_neg (by omega)]; exact a1, by rw [g6, if_neg c]; exact a2, a3, ?_⟩
      have : rws (fun i => gE V6 (65 * t' + i)) (lk t').2.2.1.length = rws (fun i => gE V (65 * t' + i)) (lk t').2.2.1.length := rws_congr (fun i _ => gg _)
      rw [this]; exact a4
  have p6 : VP V6 m al N own sd ps sn pu rf tm (dtW t w) L Z := by
    refine vp_w6 (vp_turn h ht h231 htn) (fun a i z => ?_)
    rw [hV6]
    have n1 : ∀ (X : VV) (b : Nat) (v : Int), (b = 233 ∨ b = 234 ∨ b = 239 ∨ b = 230) → st2 X b t v a i = X a i := fun X b v hb => by
      unfold st2; rw [if_neg (fun y => z (Or.inl (by omega)))]
    rw [n1 _ 239 _ (by omega), n1 _ 234 _ (by omega), n1 _ 233 _ (by omega)]
    unfold kput
    rw [if_neg (fun y => z (Or.inl (by omega))), hV2, n1 _ 230 _ (by omega)]
  -- itself
  obtain ⟨V7, b1, b2, b3⟩ := v_addEntry (t := t) (e := 165) (q := 5 * p) (n := 160) (ad := (p : Int)) (stt := 2) E6 ht m165 (by omega) (by decide) (by decide) (by omega) (by omega)
  have k165 : gk V6 165 (5 * p) = own p := by
    rw [← hown]
    exact gk_ext (fun i _ => by rw [r6 _ _ (by decide), if_neg (by omega), if_neg (by omega), if_neg (by omega), if_neg (by omega)])
  rw [k165, fup_eq, fup_eq, fup_fup] at b2
  obtain ⟨E1, hE1⟩ : ∃ E1, E1 = addE key [] (own p, (p : Int), 2, 0) := ⟨_, rfl⟩
  rw [← hE1] at b2
  obtain ⟨V8, hV8⟩ : ∃ V8, V8 = kput V7 195 0 232 (5 * t) := ⟨_, rfl⟩
  have m195 : mA 195 5 := ⟨by decide, by decide, by decide, by decide, by decide⟩
  have r8 : ∀ a i, a ≠ 195 → vI V8 a i = vI V7 a i := fun a i ha => by rw [hV8, kput_vI, if_neg (fun z => ha z.1)]
  have g7 : gk V7 232 (5 * t) = key := by
    have := (b2 t ht).2.1
    rw [fup_eq] at this
    exact this
  have g8 : gk V8 195 0 = key := by
    rw [← g7, hV8]
    exact gk_ext (fun i hi => by rw [kput_vI, if_pos (by omega), show 0 + i - 0 = i by omega])
  have p7 : VP V7 m al N own sd ps sn pu rf tm (dtW t w) L Z := vp_w6 p6 (fun a i z => b3 a i (fun y => z (Or.inl (by unfold PE at y; omega))))
  have p8 : VP V8 m al N own sd ps sn pu rf tm (dtW t w) L Z := vp_w6 p7 (fun a i z => by
    rw [hV8]
    unfold kput
    rw [if_neg (fun y => z (Or.inr (by rw [y.1]; rfl)))])
  have T8 : TabV V8 p (own p) (wT w p) Z := p8.2.2.1.2 p p32
  obtain ⟨V9, Ls, c1, c2, c3, c4, c5, c6⟩ := v_nodesFor (x2 := 195) (x3 := -1) (wo := none) T8 p32 p8.2.2.2.2.2.1 p8.2.2.2.2.2.2.2 (Or.inl ⟨by decide, rfl⟩)
  rw [g8] at c6
  obtain ⟨rs, hrs⟩ : ∃ rs, rs = (nearT m key none (wT w p)).map kad := ⟨_, rfl⟩
  have c6 : Ls.map (fun r => ((gR V8 r).1, (gR V8 r).2.1)) = rs := by rw [hrs]; exact c6
  have lrs : rs.length = Ls.length := by rw [← c6, List.length_map]
  have lm : rs.length ≤ 20 := by
    rw [hrs, List.length_map]
    unfold nearT
    rw [List.length_take]
    have := p8.2.2.2.2.2.2.2.2
    omega
  have rad : ∀ x, x ∈ rs → 0 ≤ x.2 ∧ x.2 < 32 := fun x hx => by
    rw [hrs] at hx
    obtain ⟨y, hy, e⟩ := List.mem_map.mp hx
    have hy2 : y ∈ wT w p := by
      unfold nearT at hy
      have := (srt_perm _ _).mem_iff.mp (List.mem_of_mem_take hy)
      exact (List.mem_filter.mp this).1
    rw [← e]
    exact (ho.2.2.2 p hp).2.2.1 y hy2
  have tl := T8.2.1.1
  have rowV : ∀ i, i < Ls.length → Ls.getD i 0 < 35200 ∧ (gk V8 190 (5 * Ls.getD i 0), vI V8 191 (Ls.getD i 0)) = rs.getD i ((0, 0, 0, 0, 0), 0) := fun i hi => by
    obtain ⟨j, j1, j2⟩ := c5 (Ls.getD i 0) (getD_mem hi)
    refine ⟨by omega, ?_⟩
    rw [← c6, gd_get hi, gd_get (S := List.map _ Ls) (by rw [List.length_map]; exact hi), List.getElem_map]
    rfl
  have r9 : ∀ a i, a ≠ 196 → a ≠ 156 → vI V9 a i = vI V8 a i := fun a i x y => by show w32 _ = w32 _; rw [c2 a i x (fun z => y z.1)]
  have E9 : EnsV V9 (fup (fun t => (lk t).1) t key) (fup (fun t => (lk t).2.2.1) t E1) := fun t' ht' => en_ag (b2 t' ht') (by rw [r9 _ _ (by decide) (by decide), r8 _ _ (by decide)]) (gk_ext (fun i _ => by rw [r9 _ _ (by decide) (by decide), r8 _ _ (by decide)])) (fun j _ => gE_ext (gk_ext (fun i _ => by rw [r9 _ _ (by decide) (by decide), r8 _ _ (by decide)])) (by rw [r9 _ _ (by decide) (by decide), r8 _ _ (by decide)]) (by rw [r9 _ _ (by decide) (by decide), r8 _ _ (by decide)]) (by rw [r9 _ _ (by decide) (by decide), r8 _ _ (by decide)]))
  have loop : ∀ d j fu (U : VV), d + j = Ls.length → d < fu → FrS PE V9 U → EnsV U (fup (fun t => (lk t).1) t key) (fup (fun t => (lk t).2.2.1) t ((rs.take j).foldl (fun E x => addE key E (x.1, x.2, 0, 0)) E1)) → ∃ U', lpN (fun s : Int × VV => b_X16_beginLookup_104 (t : Int) s.1 s.2) fu ((j : Int), U) = some U' ∧ FrS PE V9 U' ∧ EnsV U' (fup (fun t => (lk t).1) t key) (fup (fun t => (lk t).2.2.1) t (rs.foldl (fun E x => addE key E (x.1, x.2, 0, 0)) E1)) := by
    intro d
    induction d with
    | zero =>
      intro j fu U hd hf hU hE
      have e : j = Ls.length := by omega
      subst e
      rw [List.take_of_length_le (by omega)] at hE
      refine ⟨U, ?_, hU, hE⟩
      refine lpN_end (b := fun s : Int × VV => b_X16_beginLookup_104 (t : Int) s.1 s.2) (by omega) ?_
      dsimp only
      unfold b_X16_beginLookup_104
      have : w32 (U 156 50) = ((Ls.length : Nat) : Int) := (hU.vI (a := 156) (i := 50) (by unfold PE; omega)).trans c3
      rw [this, if_neg (by omega)]
    | succ d ih =>
      intro j fu U hd hf hU hE
      obtain ⟨f, rfl⟩ : ∃ f, fu = f + 1 := ⟨fu - 1, by omega⟩
      obtain ⟨s1, s2⟩ := rowV j (by omega)
      obtain ⟨x, hx⟩ : ∃ x, x = rs.getD j ((0, 0, 0, 0, 0), 0) := ⟨_, rfl⟩
      rw [← hx] at s2
      have xad := rad x (by rw [hx]; exact getD_mem (by omega))
      have u50 : w32 (U 156 50) = ((Ls.length : Nat) : Int) := (hU.vI (a := 156) (i := 50) (by unfold PE; omega)).trans c3
      have u196 : vI U 196 j = ((Ls.getD j 0 : Nat) : Int) := (hU.vI (a := 196) (i := j) (by unfold PE; omega)).trans (c4 j (by omega))
      have u191 : vI U 191 (Ls.getD j 0) = x.2 := by
        rw [hU.vI (by unfold PE; omega), r9 _ _ (by decide) (by decide)]
        exact congrArg Prod.snd s2
      have u190 : gk U 190 (5 * Ls.getD j 0) = x.1 := by
        have : gk U 190 (5 * Ls.getD j 0) = gk V8 190 (5 * Ls.getD j 0) := gk_ext (fun i _ => by rw [hU.vI (by unfold PE; omega), r9 _ _ (by decide) (by decide)])
        rw [this]
        exact congrArg Prod.fst s2
      obtain ⟨U1, y1, y2, y3⟩ := v_addEntry (t := t) (e := 190) (q := 5 * Ls.getD j 0) (n := 176000) (ad := x.2) (stt := 0) hE ht m190 (by omega) (by decide) (by decide) xad (by omega)
      rw [u190, fup_eq, fup_eq, fup_fup] at y2
      have st : b_X16_beginLookup_104 (t : Int) (j : Int) U = some (.inl (((j + 1 : Nat) : Int), U1)) := by
        unfold b_X16_beginLookup_104
        rw [u50, w32_nn (by omega), w32_nn (by omega), if_pos (by omega), l2_e (w32_nn (by omega)) (by omega), u196, Option.bind_some, Option.bind_some, l2_e (w32_nn (by omega)) s1, u191, Option.bind_some, show (5 * ((Ls.getD j 0 : Nat) : Int)) = ((5 * Ls.getD j 0 : Nat) : Int) by omega, show f_X16_addEntry (t : Int) 190 ((5 * Ls.getD j 0 : Nat) : Int) x.2 0 U = some U1 from y1, Option.bind_some]
        rfl
      rw [lpN_cnt (b := fun s : Int × VV => b_X16_beginLookup_104 (t : Int) s.1 s.2) (s := ((j : Int), U)) st]
      refine ih (j + 1) f U1 (by omega) (by omega) (hU.trans y3) ?_
      rw [take_s (d := ((0, 0, 0, 0, 0), (0 : Int))) (by omega), List.foldl_append, ← hx]
      exact y2
  obtain ⟨U, u1, u2, u3⟩ := loop Ls.length 0 FU V9 (by omega) (by unfold FU; omega) FrS.refl (by rw [List.take_zero]; exact E9)
  have rU : ∀ a i, a ≠ 196 → a ≠ 156 → a ≠ 195 → ¬ (234 ≤ a ∧ a ≤ 238) → vI U a i = vI V6 a i := fun a i x1 x2 x3 x4 => by
    rw [u2.vI (by unfold PE; omega), r9 _ _ x1 x2, r8 _ _ x3, b3.vI (by unfold PE; omega)]
  refine ⟨U, ?_, ?_, fun t' ht' => ?_, ?_, fun t' ht' => ?_, ?_⟩
  · unfold f_X16_beginLookup j_X16_beginLookup_90 l_X16_beginLookup_104
    have pt : f_X16_put 232 (5 * (t : Int)) (e : Int) (q : Int) V2 = some (kput V2 232 (5 * t) e q) := by
      rw [show (5 * (t : Int)) = ((5 * t : Nat) : Int) by omega]
      exact e_put (V := V2) m232 (show 5 * t + 5 ≤ 220 by omega) (by decide) he hq hn (Or.inl (show (232 : Nat) ≠ e by omega))
    have pt2 : f_X16_put 195 0 232 (5 * (t : Int)) V7 = some V8 := by
      rw [hV8, show (5 * (t : Int)) = ((5 * t : Nat) : Int) by omega]
      exact e_put m195 (by decide) (by decide) m232 (by omega) (by decide) (Or.inl (by decide))
    rw [l2_e (w32_nn (by omega)) ht, h228, Option.bind_some, l2_e (w32_nn (by omega)) ht, h231, Option.bind_some, s2_e (w32_nn (by omega)) ht, Option.bind_some, s2_e (w32_nn (by omega)) ht, Option.bind_some, ← hV2, pt, Option.bind_some, s2z_e (w32_nn (by omega)) ht (b2i_01 vals), Option.bind_some, s2_e (w32_nn (by omega)) ht, Option.bind_some, s2_e (w32_nn (by omega)) ht, Option.bind_some, ← hV6, show (5 * (p : Int)) = ((5 * p : Nat) : Int) by omega, show f_X16_addEntry (t : Int) 165 ((5 * p : Nat) : Int) (p : Int) 2 V6 = some V7 from b1, Option.bind_some, pt2, Option.bind_some, show f_X16_nodesFor (p : Int) 195 (-1) V8 = some V9 from c1, Option.bind_some]
    exact u1
  · refine vp_w6 p8 (fun a i z => ?_)
    rw [u2 a i (fun y => z (Or.inl (by unfold PE at y; omega))), c2 a i (fun y => z (Or.inr (by rw [y]; rfl))) (fun y => z (Or.inr (by rw [y.1, y.2]; rfl)))]
  · have h0 := u3 t' ht'
    obtain ⟨a1, a2, a3, a4⟩ := hk t' ht'
    by_cases c : t' = t
    · subst c
      rw [fup_eq, fup_eq] at h0
      rw [fup_eq, fup_eq]
      refine ⟨?_, by rw [rU _ _ (by decide) (by decide) (by decide) (by omega), r6 _ _ (by decide), if_neg (by omega), if_pos ⟨rfl, rfl⟩], by rw [rU _ _ (by decide) (by decide) (by decide) (by omega), r6 _ _ (by decide), if_pos ⟨Or.inl rfl, rfl⟩], by rw [rU _ _ (by decide) (by decide) (by decide) (by omega), r6 _ _ (by decide), if_neg (by omega), if_neg (by omega), if_neg (by omega), if_pos ⟨rfl, rfl⟩]⟩
      show EnV U t' key (begE m (own p) p (wT w p) key)
      unfold begE
      rw [← hrs, ← hE1]
      exact h0
    · rw [fup_ne c, fup_ne c] at h0
      rw [fup_ne c, fup_ne c]
      exact ⟨h0, by rw [rU _ _ (by decide) (by decide) (by decide) (by omega), r6 _ _ (by decide), if_neg (by omega), if_neg (by omega), if_neg (by omega), if_neg (by omega)]; exact a2, by rw [rU _ _ (by decide) (by decide) (by decide) (by omega), r6 _ _ (by decide), if_neg (by omega), if_neg (by omega), if_neg (by omega), if_neg (by omega)]; exact a3, by rw [rU _ _ (by decide) (by decide) (by decide) (by omega), r6 _ _ (by decide), if_neg (by omega), if_neg (by omega), if_neg (by omega), if_neg (by omega)]; exact a4⟩
  · rw [rU _ _ (by decide) (by decide) (by decide) (by omega), r6 _ _ (by decide), if_neg (by omega), if_neg (by omega), if_pos ⟨rfl, rfl⟩]
  · rw [rU _ _ (by decide) (by decide) (by decide) (by omega), r6 _ _ (by decide), if_neg (by omega), if_neg (by omega), if_neg (by omega), if_neg (by omega)]
  · intro a i z
    unfold PL at z
    rw [u2 a i (by unfold PE; omega), c2 a i (by omega) (by omega), hV8]
    unfold kput
    rw [if_neg (by omega), b3 a i (by unfold PE; omega), hV6]
    unfold kput
    have n1 : ∀ (X : VV) (b : Nat) (v : Int), (b = 233 ∨ b = 234 ∨ b = 239 ∨ b = 230 ∨ b = 231) → st2 X b t v a i = X a i := fun X b v hb => by
      unfold st2; rw [if_neg (by omega)]
    rw [n1 _ 239 _ (by omega), n1 _ 234 _ (by omega), n1 _ 233 _ (by omega), if_neg (by omega), hV2, n1 _ 230 _ (by omega), n1 _ 231 _ (by omega)]
end VLK
