/-! the reference stores a term's postings -/
theorem pst_s {p d : Nat} {x : Trm} : pstT p (d + 1) x = pstT p d x ++ (if 0 < x.2.2 d then [((p : Int), (d : Int), x.2.2 d)] else []) := by
  unfold pstT
  rw [List.range_succ, List.filter_append, List.map_append]
  congr 1
  by_cases c : 0 < x.2.2 d
  · rw [if_pos c]; simp [c]
  · rw [if_neg c]; simp [c]
theorem pst_len {p : Nat} {x : Trm} : ∀ d, (pstT p d x).length ≤ d := fun d => by
  unfold pstT
  rw [List.length_map]
  have := List.length_filter_le (fun d => decide (0 < x.2.2 d)) (List.range d)
  rw [List.length_range] at this
  exact this
theorem pst_ok {p d : Nat} {x : Trm} (hx : okTr x) (hd : d ≤ 16) (hp : p < 32) : okI (pstT p d x) := by
  refine ⟨by have := pst_len (p := p) (x := x) d; omega, fun z hz => ?_⟩
  unfold pstT at hz
  obtain ⟨e, he, rfl⟩ := List.mem_map.mp hz
  obtain ⟨h1, h2⟩ := List.mem_filter.mp he
  have h1 := List.mem_range.mp h1
  have h2 : 0 < x.2.2 e := by simpa using h2
  have := hx.2.2.2 e
  exact ⟨by dsimp only; omega, by dsimp only; omega, by dsimp only; omega⟩
theorem be3_isBL {tl : List It} (h : okTl tl) : isBL (tl.flatMap be3) := fun b hb => by
  obtain ⟨z, hz, hb⟩ := List.mem_flatMap.mp hb
  have := h z hz
  simp only [be3, List.mem_cons, List.not_mem_nil, or_false] at hb
  rcases hb with e | e | e <;> rw [e] <;> omega
theorem okI_tl {its : List It} (h : okI its) : okTl its := fun z hz => by
  have := h.2 z hz
  omega
def PSt (a i : Nat) : Prop := PG a i ∨ PB a i ∨ a = 245 ∨ a = 246 ∨ a = 268 ∨ a = 269 ∨ mv a i = 3 ∨ (217 ≤ a ∧ a ≤ 219) ∨ (a = 156 ∧ i = 74)
section VSTALL
variable {V W : VV} {m al N p t oth Z : Nat} {own : Nat → Ky} {sd ps sn pu rf : Nat → Int} {tm ad ty : Int} {w : Wd} {ev tn : Nat → Nat} {Lb : Nat → List Trm} {Y : Ys} {E : List Ent} {Ls : List Nat} {e q n : Nat} {bd : List Int} {done : Bool} {its : List It}
theorem v_stored (h : VY V m al N own sd ps sn pu rf tm Lb oth Z ev tn Y) (ht : t < 44) (hg : goW N Y t) (h6 : yv Y 246 t = 0 ∨ yv Y 246 t = 1) : ∃ V', f_X16_stored (t : Int) (b2i done) V = some V' ∧ VY V' m al N own sd ps sn pu rf tm Lb oth Z ev tn (setU Y (stdS t done (ys Y))) ∧ FrS (fun a i => a = 246 ∨ a = 269) V V' := by
  have s5 := h.2.2.2.2.1
  have r229 : vI V 229 t = yv Y 229 t := s5 229 t (by unfold scA; omega)
  have r246 : vI V 246 t = yv Y 246 t := s5 246 t (by unfold scA; omega)
  -- the flag is written as it is
  have idn : ∀ (U : VV) (Y' : Ys) (v : Int), VY U m al N own sd ps sn pu rf tm Lb oth Z ev tn Y' → (v = 0 ∨ v = 1) → yv Y' 246 t = v → VY (st2 U 246 t v) m al N own sd ps sn pu rf tm Lb oth Z ev tn Y' := fun U Y' v hU hv he => by
    have r := hU.2.2.2.2.1 246 t (by unfold scA; omega)
    have e : ∀ a i, vI (st2 U 246 t v) a i = vI U a i := fun a i => by
      rw [vI_st2]
      by_cases c : a = 246 ∧ i = t
      · rw [if_pos c, c.1, c.2, r]
        rcases hv with z | z <;> rw [z] at he ⊢ <;> exact he.symm
      · rw [if_neg c]
    have := vy_mk (W := st2 U 246 t v) (lk := yl Y') (sc' := ys Y') (q' := yq Y') hU (fun b j z => st2_ne (fun e => z (Or.inl (by omega)))) (LksV_ag hU.2.2.2.1 (fun b j _ => e b j)) (sc_ag hU.2.2.2.2.1 (fun b j _ => e b j)) (QsV_ag hU.2.2.2.2.2.1 (fun b j _ => e b j)) (TmV_ag hU.2.2.2.2.2.2.2 (fun b j _ => e b j) (fun t _ k1 k2 => ⟨⟨k1, k2⟩, rfl, rfl, rfl⟩))
    exact this
  have run28 : ∀ (U : VV) (Y' : Ys), VY U m al N own sd ps sn pu rf tm Lb oth Z ev tn Y' → yv Y' 246 t = yv Y 246 t → ∃ V', j_X16_stored_28 (t : Int) (b2i done) U = some V' ∧ VY V' m al N own sd ps sn pu rf tm Lb oth Z ev tn (if done = true then Y' else setV Y' 246 t 1) ∧ FrS (fun a i => a = 246 ∨ a = 269) U V' := fun U Y' hU he => by
    unfold j_X16_stored_28 j_X16_stored_46 j_X16_stored_51
    have r := hU.2.2.2.2.1 246 t (by unfold scA; omega)
    rw [l2_n ht (by omega), r, Option.bind_some, show vI (ys Y') 246 t = yv Y 246 t from he, show w32 (yv Y 246 t) = yv Y 246 t from w32_vI, w32_b2i]
    have s1 := vy_st (a := 246) (i := t) (v := 1) hU (by omega)
    have fs : ∀ v, FrS (fun a i => a = 246 ∨ a = 269) U (st2 U 246 t v) := fun v => FrS_st (P := fun a i => a = 246 ∨ a = 269) (Or.inl rfl)
    rcases h6 with c | c
    · rw [c, if_pos rfl]
      cases done with
      | true =>
        rw [if_neg (by decide), s2z_n ht (by omega) (Or.inl rfl), if_pos rfl]
        exact ⟨_, rfl, idn U Y' 0 hU (Or.inl rfl) (by rw [he]; exact c), fs 0⟩
      | false =>
        rw [if_pos (by decide), s2z_n ht (by omega) (Or.inr rfl), if_neg (by decide)]
        exact ⟨_, rfl, s1, fs 1⟩
    · rw [c, if_neg (by decide), s2z_n ht (by omega) (Or.inr rfl)]
      refine ⟨_, rfl, ?_, fs 1⟩
      cases done with
      | true => rw [if_pos rfl]; exact idn U Y' 1 hU (Or.inr rfl) (by rw [he]; exact c)
      | false => rw [if_neg (by decide)]; exact s1
  unfold f_X16_stored
  rw [w32_b2i]
  cases hd : done with
  | false =>
    rw [if_pos (by decide)]
    obtain ⟨V', e1, e2, e3⟩ := run28 V Y h rfl
    rw [hd] at e1 e2
    refine ⟨V', e1, ?_, e3⟩
    exact e2
  | true =>
    rw [if_neg (by decide), l2_n ht (by omega), r229, Option.bind_some, show w32 (yv Y 229 t) = yv Y 229 t from w32_vI]
    rcases hg.2 with c | c
    · rw [c, if_pos (by decide)]
      obtain ⟨V', e1, e2, e3⟩ := run28 V Y h rfl
      rw [hd] at e1 e2
      refine ⟨V', e1, ?_, e3⟩
      have : stdS t true (ys Y) = ys Y := by unfold stdS; rw [if_pos rfl, if_neg (show ¬ 0 ≤ vI (ys Y) 229 t by have : vI (ys Y) 229 t = -1 := c; omega)]
      rw [this]; exact e2
    · obtain ⟨r, hr⟩ : ∃ r : Nat, yv Y 229 t = (r : Int) := ⟨(yv Y 229 t).toNat, by omega⟩
      have r269 : vI V 269 r = yv Y 269 r := s5 269 r (by unfold scA; omega)
      rw [hr, if_neg (by omega), Option.bind_some, l2_n (by omega) (by omega), r269, Option.bind_some, s2_n (by omega) (by omega), Option.bind_some]
      have s1 := vy_st (a := 269) (i := r) (v := yv Y 269 r + 1) h (by omega)
      obtain ⟨V', e1, e2, e3⟩ := run28 _ _ s1 (vI_ne (by omega))
      rw [hd] at e1 e2
      refine ⟨V', e1, ?_, FrS.trans (FrS_st (P := fun a i => a = 246 ∨ a = 269) (Or.inr rfl)) e3⟩
      have : stdS t true (ys Y) = st2 (ys Y) 269 r (yv Y 269 r + 1) := by
        unfold stdS
        rw [if_pos rfl, if_pos (show 0 ≤ vI (ys Y) 229 t by have : vI (ys Y) 229 t = (r : Int) := hr; omega), show vI (ys Y) 229 t = (r : Int) from hr, Int.toNat_natCast]
      rw [this]; exact e2
/-- a work asks -/
theorem vy_ask (h : VY V m al N own sd ps sn pu rf tm Lb oth Z ev tn Y) (hB : bdg N ev oth) (ht : t < 44) (hg : goW N Y t) (ha : 0 ≤ ad ∧ ad < 32) (hty : 1 < ty ∧ ty < 256) (he : mA e n) (hq : q + 5 ≤ n) (hn : n ≤ 1000000) (hem : ∀ i, mv e i ≠ 5 ∧ ¬ PO e i) (he2 : e ≠ 268) (hb : BodyV V bd) (hbl : isBL bd) (hbd : bd.length ≤ 325) : ∃ V', f_X16_askFor (t : Int) ad (e : Int) (q : Int) ty V = some (b2i (askY N own sd tm (yw Y) (yp Y t) ad ty (gk V e q) bd (some t) none).2, V') ∧ VY V' m al N own sd ps sn pu rf tm Lb oth Z ev tn ((askY N own sd tm (yw Y) (yp Y t) ad ty (gk V e q) bd (some t) none).1, yl Y, raS t (ys Y), yq Y) ∧ FrS (fun a i => PG a i ∨ a = 268) V V' ∧ SK V V' := by
  obtain ⟨h1, h2, h3, h4, h5, h6, h7, h8⟩ := id h
  obtain ⟨p, hp⟩ : ∃ p : Nat, yv Y 228 t = (p : Int) := ⟨(yv Y 228 t).toNat, by have := hg.1; omega⟩
  have hyp : yp Y t = p := by unfold yp; show (yv Y 228 t).toNat = p; omega
  have pN : p < N := by have := hg.1; omega
  have r228 : vI V 228 t = (p : Int) := by rw [h5 228 t (by unfold scA; omega)]; exact hp
  have r229 : vI V 229 t = yv Y 229 t := h5 229 t (by unfold scA; omega)
  have htn : 0 ≤ vI V 231 0 := by rw [(h4 0 (by omega)).2.2.2]; omega
  obtain ⟨V', e1, e2, e3, e4, e5⟩ := v_askFor (ra := fun i => yv Y 268 i) h1 h2 h3 hB pN ht r228 r229 hg.2 (fun i hi => h5 268 i (by unfold scA; omega)) ha hty he hq hn hem he2 hb hbl hbd htn
  rw [hyp]
  have nP : ∀ a i, (173 ≤ a ∧ a ≤ 178) ∨ (226 ≤ a ∧ a ≤ 270 ∧ a ≠ 268) → ¬ (PG a i ∨ a = 268) := fun a i z q => by
    rcases q with q | q
    · unfold PG PO at q
      have : mv a i = 4 ∨ mv a i = 6 ∨ mv a i = 8 ∨ mv a i = 9 := by
        unfold mv
        rw [if_neg (by omega)]
        unfold mvA
        rw [if_neg (by omega), if_neg (by omega), if_neg (by omega)]
        by_cases c : 173 ≤ a ∧ a ≤ 178
        · rw [if_pos c]; exact Or.inl rfl
        · rw [if_neg c, if_neg (by omega)]
          split
          · exact Or.inr (Or.inl rfl)
          · split
            · exact Or.inr (Or.inr (Or.inl rfl))
            · exact Or.inr (Or.inr (Or.inr rfl))
      omega
    · omega
  have g : ∀ a i, (173 ≤ a ∧ a ≤ 178) ∨ (226 ≤ a ∧ a ≤ 270 ∧ a ≠ 268) → vI V' a i = vI V a i := fun a i z => e4.vI (nP a i z)
  have rs : ∀ a i, vI (raS t (ys Y)) a i = if a = 268 then raU (yv Y 229 t) (fun i => yv Y 268 i) i else vI (ys Y) a i := fun a i => by
    unfold raS raU
    by_cases c : 0 ≤ vI (ys Y) 229 t
    · rw [if_pos c, if_pos (show 0 ≤ yv Y 229 t from c), vI_st2]
      unfold fup
      by_cases c2 : a = 268
      · rw [if_pos c2, c2]
        by_cases c3 : i = (vI (ys Y) 229 t).toNat
        · rw [if_pos ⟨rfl, c3⟩, if_pos c3]
        · rw [if_neg (fun z => c3 z.2), if_neg c3]
      · rw [if_neg (fun z => c2 z.1), if_neg c2]
    · rw [if_neg c, if_neg (show ¬ 0 ≤ yv Y 229 t from c)]
      by_cases c2 : a = 268
      · rw [if_pos c2, c2]
      · rw [if_neg c2]
  refine ⟨V', e1, ⟨e2, ok_ask h2 h3 hB pN ha ⟨by omega, hty.2⟩ hbl hbd, ev_ask h3, LksV_ag h4 (fun a i z => g a i (by omega)), fun a i z => ?_, QsV_ag h6 (fun a i z => g a i (by omega)), LbV_ag h7 (fun a i z => g a i (by omega)), TmV_ag h8 (fun a i z => g a i (by omega)) (fun t' _ k1 k2 => ?_)⟩, e4, e5⟩
  · show vI V' a i = vI (raS t (ys Y)) a i
    rw [rs]
    by_cases c : a = 268
    · rw [if_pos c, c]
      exact e3 i (by unfold scA at z; omega)
    · rw [if_neg c]
      by_cases c2 : a = 156
      · have : i = 91 := by unfold scA at z; omega
        rw [c2, this, e4.vI (by unfold PG PO; decide)]
        exact h5 156 91 (by unfold scA; omega)
      · rw [g a i (by unfold scA at z; omega)]; exact h5 a i z
  · change vI (raS t (ys Y)) 226 t' ≠ 0 at k1
    change vI (raS t (ys Y)) 227 t' = 2 at k2
    rw [rs, if_neg (by decide)] at k1 k2
    refine ⟨⟨k1, k2⟩, ?_, ?_, ?_⟩ <;> (show vI (raS t (ys Y)) _ t' = _; rw [rs, if_neg (by decide)])
/-- a term's postings are kept -/
theorem vy_keep (h : VY V m al N own sd ps sn pu rf tm Lb oth Z ev tn Y) (hp : p < N) (he : mA e n) (hq : q + 5 ≤ n) (hn : n ≤ 1000000) (hm : ∀ i, m3 (mv e i) = false) (hI : ItV V its) (hoI : okI its) : ∃ V' done, f_X16_keep (p : Int) (e : Int) (q : Int) V = some (b2i done, V') ∧ VY V' m al N own sd ps sn pu rf tm Lb oth Z ev tn (setW Y (match keepS (gk V e q) its (tm + wst (yw Y) 7) (wS (yw Y) p) with | some S' => setS (yw Y) (fup (wS (yw Y)) p S') | none => setL (yw Y) (tlU (wtl (yw Y)) (5 * p + 2)))) ∧ (done = (keepS (gk V e q) its (tm + wst (yw Y) 7) (wS (yw Y) p)).isSome) ∧ FrS (fun a i => mv a i = 3 ∨ a = 172) V V' := by
  obtain ⟨⟨L, hP, hL⟩, h2, h3, h4, h5, h6, h7, h8⟩ := id h
  obtain ⟨v1, v2, v3, v4, v5, v6, v7, v8⟩ := id hP
  have st7 := h2.1.2.2.2.2.2.2.2.1
  have htm := h2.2.1
  have hN := h2.2.2.1
  have key := v_keep (e := e) (q := q) (n := n) (tm := tm) (s7 := wst (yw Y) 7) v4 (show p < 32 by omega) he hq hn hm hI hoI v1.2.1 (v1.1 7 (by decide))
  rw [w32_id (by omega) (by omega)] at key
  have nP : ∀ a i, (173 ≤ a ∧ a ≤ 178) ∨ (226 ≤ a ∧ a ≤ 270) → ¬ (mv a i = 3 ∨ a = 172) := fun a i z q => by
    rcases q with q | q
    · have : mv a i = 4 ∨ mv a i = 6 ∨ mv a i = 8 ∨ mv a i = 9 := by
        unfold mv
        rw [if_neg (by omega)]
        unfold mvA
        rw [if_neg (by omega), if_neg (by omega), if_neg (by omega)]
        by_cases c : 173 ≤ a ∧ a ≤ 178
        · rw [if_pos c]; exact Or.inl rfl
        · rw [if_neg c, if_neg (by omega)]
          split
          · exact Or.inr (Or.inl rfl)
          · split
            · exact Or.inr (Or.inr (Or.inl rfl))
            · exact Or.inr (Or.inr (Or.inr rfl))
      omega
    · omega
  have up : ∀ (V' : VV) (w' : Wd), VP V' m al N own sd ps sn pu rf tm w' L Z → (wnx w' = wnx (yw Y) ∧ okW N own tm w' ∧ EvI N ev w') → FrS (fun a i => mv a i = 3 ∨ a = 172) V V' → VY V' m al N own sd ps sn pu rf tm Lb oth Z ev tn (setW Y w') := fun V' w' a1 a2 a3 => by
    have g : ∀ a i, (173 ≤ a ∧ a ≤ 178) ∨ (226 ≤ a ∧ a ≤ 270) → vI V' a i = vI V a i := fun a i z => a3.vI (nP a i z)
    refine ⟨⟨L, a1, by show L ≤ 2 * (sumN (wnx w') N + oth); rw [a2.1]; exact hL⟩, a2.2.1, a2.2.2, LksV_ag h4 (fun a i z => g a i (by omega)), sc_ag h5 (fun a i z => ?_), QsV_ag h6 (fun a i z => g a i (by omega)), LbV_ag h7 (fun a i z => g a i (by omega)), TmV_ag h8 (fun a i z => g a i (by omega)) (fun t _ k1 k2 => ⟨⟨k1, k2⟩, rfl, rfl, rfl⟩)⟩
    by_cases c2 : a = 156
    · have : i = 91 := by unfold scA at z; omega
      rw [c2, this, a3.vI (by decide)]
    · exact g a i (by unfold scA at z; omega)
  cases hks : keepS (gk V e q) its (tm + wst (yw Y) 7) (wS (yw Y) p) with
  | none =>
    rw [hks] at key
    dsimp only at key ⊢
    have f : FrV (fun z => z == 5) V (st2 V 172 (5 * p + 2) (vI V 172 (5 * p + 2) + 1)) := FrV_st rfl
    have fs : FrS (fun a i => mv a i = 3 ∨ a = 172) V (st2 V 172 (5 * p + 2) (vI V 172 (5 * p + 2) + 1)) := FrS_st (P := fun a i => mv a i = 3 ∨ a = 172) (Or.inr rfl)
    exact ⟨_, false, key, up _ _ ⟨VNet_fr f (by decide) v1, PV_tl v2, tabs_frV f (by decide) v3, sts_frV f (by decide) v4, rqs_ag v5 (fun a i z => by rw [vI_st2, if_neg (by omega)]), by rw [vI_st2, if_neg (by omega)]; exact v6, by rw [vI_st2, if_neg (by omega)]; exact v7, v8⟩ ⟨rfl, h2, h3⟩ fs, rfl, fs⟩
  | some S' =>
    rw [hks] at key
    dsimp only at key ⊢
    obtain ⟨U2, k1, k2, k3⟩ := key
    have fs : FrS (fun a i => mv a i = 3 ∨ a = 172) V U2 := fun a i z => k3 a i (by unfold m3; simpa using fun q => z (Or.inl q))
    exact ⟨U2, true, k1, up _ _ ⟨VNet_fr k3 (by decide) v1, PV_frV k3 (by decide) v2, tabs_frV k3 (by decide) v3, k2, rqs_frV k3 ⟨by decide, by decide⟩ v5, by rw [fv k3 (show m3 (mv 156 0) = false from rfl)]; exact v6, by rw [fv k3 (show m3 (mv 156 1) = false from rfl)]; exact v7, v8⟩ ⟨rfl, h2, h3⟩ fs, rfl, fs⟩
end VSTALL
