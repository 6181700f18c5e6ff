/-! a step of a work leaves the others -/
def rqv (t : Nat) (Q : List Rq) : List Int := (Q.filter (fun y => decide (qWrk y = some t))).map qTyp
def wrT (t : Nat) (r : Int) (a i : Nat) : Prop := ((226 ≤ a ∧ a ≤ 264 ∧ a ≠ 250 ∧ a ≠ 252) ∧ i = t) ∨ ((a = 250 ∨ a = 252) ∧ 3 * t ≤ i ∧ i < 3 * t + 3) ∨ ((267 ≤ a ∧ a ≤ 269) ∧ 0 ≤ r ∧ i = r.toNat)
def FTw (t : Nat) (w w' : Wd) : Prop := ∀ p t', t' ≠ t → rqv t' (wQ w' p) = rqv t' (wQ w p)
def FTs (t : Nat) (r : Int) (sc sc' : VV) : Prop := ∀ a i, ¬ wrT t r a i → vI sc' a i = vI sc a i
def FTq (t : Nat) (r : Int) (q q' : Qs) : Prop := (∀ t', t' ≠ t → qL q' t' = qL q t' ∧ qF q' t' = qF q t' ∧ qB q' t' = qB q t' ∧ qO q' t' = qO q t') ∧ qK q' = qK q ∧ (∀ i, ¬ (3 * t ≤ i ∧ i < 3 * t + 3) → qH q' i = qH q i) ∧ ∀ x : Nat, ¬ (0 ≤ r ∧ x = r.toNat) → qR q' x = qR q x
def FT (t : Nat) (Y Y' : Ys) : Prop := FTw t (yw Y) (yw Y') ∧ (∀ t', t' ≠ t → yl Y' t' = yl Y t') ∧ FTs t (yv Y 229 t) (ys Y) (ys Y') ∧ (yv Y' 227 t = yv Y 227 t ∧ yv Y' 228 t = yv Y 228 t ∧ yv Y' 229 t = yv Y 229 t) ∧ FTq t (yv Y 229 t) (yq Y) (yq Y')
section WFRAME
variable {m al N p q t t' : Nat} {own : Nat → Ky} {sd : Nat → Int} {tm ad ty how r : Int} {w w1 w2 : Wd} {Y Y1 Y2 : Ys} {Lb : Nat → List Trm} {key : Ky} {bd : List Int} {vals : Bool} {sc sc1 sc2 : VV} {q0 q1 q2 : Qs}
theorem cnA_rqv : cnA p t w = (rqv t (wQ w p)).length := by
  unfold cnA rqv
  rw [List.length_map, List.countP_eq_length_filter]
theorem rqv_mem {y : Rq} {Q Q' : List Rq} (h : rqv t Q' = rqv t Q) (hy : y ∈ Q') (hw : qWrk y = some t) : ∃ z, z ∈ Q ∧ qWrk z = some t ∧ qTyp z = qTyp y := by
  have : qTyp y ∈ rqv t Q' := List.mem_map.mpr ⟨y, List.mem_filter.mpr ⟨hy, by simpa using hw⟩, rfl⟩
  rw [h] at this
  obtain ⟨z, hz, e⟩ := List.mem_map.mp this
  have := List.mem_filter.mp hz
  exact ⟨z, this.1, by simpa using this.2, e⟩
theorem rqv_dt {Q : List Rq} (h : t' ≠ t) : rqv t' (Q.map (dtQ t)) = rqv t' Q := by
  unfold rqv
  induction Q with
  | nil => rfl
  | cons y Q ih =>
    rw [List.map_cons]
    have e : qWrk (dtQ t y) = if qWrk y = some t then none else qWrk y := rfl
    have e2 : qTyp (dtQ t y) = qTyp y := rfl
    by_cases c : qWrk y = some t
    · rw [if_pos c] at e
      have n : ¬ (some t = (some t' : Option Nat)) := fun z => h (Option.some.inj z).symm
      rw [List.filter_cons_of_neg (by rw [e]; simp), List.filter_cons_of_neg (by rw [c]; simpa using n)]
      exact ih
    · rw [if_neg c] at e
      by_cases d : qWrk y = some t'
      · rw [List.filter_cons_of_pos (by rw [e]; simpa using d), List.filter_cons_of_pos (by simpa using d), List.map_cons, List.map_cons, ih, e2]
      · rw [List.filter_cons_of_neg (by rw [e]; simpa using d), List.filter_cons_of_neg (by simpa using d)]
        exact ih
theorem FTw.refl : FTw t w w := fun _ _ _ => rfl
theorem FTw.trans (h : FTw t w w1) (h2 : FTw t w1 w2) : FTw t w w2 := fun p t' z => (h2 p t' z).trans (h p t' z)
theorem FTs.refl : FTs t r sc sc := fun _ _ _ => rfl
theorem FTs.trans (h : FTs t r sc sc1) (h2 : FTs t r sc1 sc2) : FTs t r sc sc2 := fun a i z => (h2 a i z).trans (h a i z)
theorem FTq.refl : FTq t r q0 q0 := ⟨fun _ _ => ⟨rfl, rfl, rfl, rfl⟩, rfl, fun _ _ => rfl, fun _ _ => rfl⟩
theorem FTq.trans (h : FTq t r q0 q1) (h2 : FTq t r q1 q2) : FTq t r q0 q2 :=
  ⟨fun t' z => ⟨((h2.1 t' z).1).trans (h.1 t' z).1, ((h2.1 t' z).2.1).trans (h.1 t' z).2.1, ((h2.1 t' z).2.2.1).trans (h.1 t' z).2.2.1, ((h2.1 t' z).2.2.2).trans (h.1 t' z).2.2.2⟩, h2.2.1.trans h.2.1, fun i z => (h2.2.2.1 i z).trans (h.2.2.1 i z), fun x z => (h2.2.2.2 x z).trans (h.2.2.2 x z)⟩
theorem FT.refl : FT t Y Y := ⟨.refl, fun _ _ => rfl, .refl, ⟨rfl, rfl, rfl⟩, .refl⟩
theorem FT.trans (h : FT t Y Y1) (h2 : FT t Y1 Y2) : FT t Y Y2 := by
  obtain ⟨a1, a2, a3, a4, a5⟩ := h
  obtain ⟨b1, b2, b3, b4, b5⟩ := h2
  rw [a4.2.2] at b3 b5
  exact ⟨a1.trans b1, fun t' z => (b2 t' z).trans (a2 t' z), a3.trans b3, ⟨b4.1.trans a4.1, b4.2.1.trans a4.2.1, b4.2.2.trans a4.2.2⟩, a5.trans b5⟩
theorem FT_p (h : FT t Y Y1) : yp Y1 t = yp Y t := by unfold yp; rw [show vI (ys Y1) 228 t = vI (ys Y) 228 t from h.2.2.2.1.2.1]
theorem FTw_dt : FTw t w (dtW t w) := fun _ _ z => rqv_dt z
theorem FTw_ask {wk : Option Nat} {pb : Option Int} (hw : wk = some t ∨ wk = none) : FTw t w (askY N own sd tm w p ad ty key bd wk pb).1 := fun q t' z => by
  unfold askY
  by_cases c : (wQ w p).length = 40
  · rw [if_pos c]
  · rw [if_neg c]
    show rqv t' (fup (wQ w) p (wQ w p ++ [newY (wnx w p) ad ty (tm + wst w 4) key (hdB ty (wnx w p : Int) (kf (own p)) ++ bd) wk pb]) q) = _
    unfold fup
    by_cases e : q = p
    · rw [if_pos e, e]
      unfold rqv
      rw [List.filter_append]
      have n : ¬ wk = some t' := by
        rcases hw with h | h
        · rw [h]; exact fun y => z (Option.some.inj y).symm
        · rw [h]; simp
      rw [List.filter_cons_of_neg (by rw [show qWrk (newY (wnx w p) ad ty (tm + wst w 4) key (hdB ty (wnx w p : Int) (kf (own p)) ++ bd) wk pb) = wk from rfl]; simpa using n), List.filter_nil, List.append_nil]
    · rw [if_neg e]
theorem FTs_st {a i : Nat} {v : Int} (h : wrT t r a i) : FTs t r sc (st2 sc a i v) := fun b j z => vI_ne (fun e => z (by rw [e.1, e.2]; exact h))
theorem FTs_cl (hr : r = vI sc 229 t) : FTs t r sc (clS t how sc) := by
  unfold clS
  have w1 : wrT t r 226 t := Or.inl ⟨by omega, rfl⟩
  by_cases c : vI sc 229 t < 0
  · rw [if_pos c]; exact FTs_st w1
  · rw [if_neg c]
    exact (FTs_st w1).trans (FTs_st (Or.inr (Or.inr ⟨by omega, by omega, by rw [hr]⟩)))
theorem FT_w (h : FTw t (yw Y) w) : FT t Y (setW Y w) := ⟨h, fun _ _ => rfl, .refl, ⟨rfl, rfl, rfl⟩, .refl⟩
theorem FT_cl : FT t Y (clY t how Y) := ⟨FTw_dt, fun _ _ => rfl, FTs_cl rfl, ⟨clS_ne (by omega) (by omega), clS_ne (by omega) (by omega), clS_ne (by omega) (by omega)⟩, .refl⟩
theorem FT_lk : FT t Y (lkY m own t key vals Y) := ⟨FTw_dt, fun t' z => fup_ne z, FTs_st (Or.inl ⟨by omega, rfl⟩), ⟨lk_v (by decide), lk_v (by decide), lk_v (by decide)⟩, .refl⟩
theorem FT_v {a : Nat} {v : Int} (h : 230 ≤ a ∧ a ≤ 264 ∧ a ≠ 250 ∧ a ≠ 252) : FT t Y (setV Y a t v) := ⟨.refl, fun _ _ => rfl, FTs_st (Or.inl ⟨by omega, rfl⟩), ⟨vI_ne (by omega), vI_ne (by omega), vI_ne (by omega)⟩, .refl⟩
theorem FT_rf : FT t Y (rfY m own t Y) := by
  unfold rfY
  by_cases c : yv Y 241 t < yv Y 242 t
  · rw [if_pos c]; exact FT_cl
  · rw [if_neg c]; exact FT_lk
theorem FT_br : FT t Y (brY m own t Y) := by
  unfold brY
  exact ((FT_v (by omega)).trans (FT_v (by omega))).trans FT_rf
theorem FT_tl {n : Nat} {l : List Int} (hr : 0 ≤ yv Y 229 t) : FT t Y (tlY t n l Y) := by
  unfold tlY
  refine FT.trans (Y1 := (yw Y, yl Y, st2 (ys Y) 269 (yv Y 229 t).toNat (n : Int), tlQ (yv Y 229 t).toNat l (yq Y))) ⟨.refl, fun _ _ => rfl, FTs_st (Or.inr (Or.inr ⟨by omega, hr, rfl⟩)), ⟨vI_ne (by omega), vI_ne (by omega), vI_ne (by omega)⟩, ⟨fun _ _ => ⟨rfl, rfl, rfl, rfl⟩, rfl, fun _ _ => rfl, fun x z => fup_ne (fun e => z ⟨hr, e⟩)⟩⟩ FT_cl
theorem FT_nxt : FT t Y (nxtY m own Lb t Y) := by
  unfold nxtY
  by_cases c : (yv Y 244 t + 1).toNat < (pbT (yv Y 243 t).toNat (Lb (yp Y t))).length
  · rw [if_pos c]; exact (FT_v (by omega)).trans FT_lk
  · rw [if_neg c]; exact (FT_v (by omega)).trans FT_cl
theorem FTs_ra (hr : r = vI sc 229 t) : FTs t r sc (raS t sc) := by
  unfold raS
  by_cases c : 0 ≤ vI sc 229 t
  · rw [if_pos c]; exact FTs_st (Or.inr (Or.inr ⟨by omega, by omega, by rw [hr]⟩))
  · rw [if_neg c]; exact .refl
theorem FTs_std {d : Bool} (hr : r = vI sc 229 t) : FTs t r sc (stdS t d sc) := by
  unfold stdS
  by_cases e : d = true
  · rw [if_pos e]
    by_cases c : 0 ≤ vI sc 229 t
    · rw [if_pos c]; exact FTs_st (Or.inr (Or.inr ⟨by omega, by omega, by rw [hr]⟩))
    · rw [if_neg c]; exact .refl
  · rw [if_neg e]; exact FTs_st (Or.inl ⟨by omega, rfl⟩)
theorem FTs_sto {lim : Nat} {x : Trm} {s : Wd × VV} {e : Ent} (hr : r = vI s.2 229 t) : FTs t r s.2 (stoN N own sd tm t p lim x s e).2 := by
  have n : vI (raS t s.2) 229 t = vI s.2 229 t := raS_ne (by decide)
  rcases stoN_cs (N := N) (own := own) (sd := sd) (tm := tm) (t := t) (p := p) (lim := lim) (x := x) (s := s) (e := e) with h | h | h | h
  · rw [h]; exact FTs_std hr
  · rw [h]; exact FTs_std hr
  · rw [h]; exact (FTs_ra hr).trans (FTs_st (Or.inl ⟨by omega, rfl⟩))
  · rw [h]; exact (FTs_ra hr).trans (FTs_st (Or.inl ⟨by omega, rfl⟩))
theorem stoN_w {lim : Nat} {x : Trm} {s : Wd × VV} {e : Ent} : (eKey e = own p ∧ wQ (stoN N own sd tm t p lim x s e).1 = wQ s.1 ∧ ((stoN N own sd tm t p lim x s e).2 = stdS t true s.2 ∨ (stoN N own sd tm t p lim x s e).2 = stdS t false s.2)) ∨ (eKey e ≠ own p ∧ (stoN N own sd tm t p lim x s e).1 = (askY N own sd tm s.1 p (eAdr e) 7 (eKey e) (stB x p lim) (some t) none).1 ∧ (stoN N own sd tm t p lim x s e).2 = if (askY N own sd tm s.1 p (eAdr e) 7 (eKey e) (stB x p lim) (some t) none).2 = true then st2 (raS t s.2) 245 t (vI (raS t s.2) 245 t + 1) else st2 (raS t s.2) 246 t 1) := by
  unfold stoN
  by_cases c : eKey e = own p
  · rw [if_pos c]
    left
    refine ⟨c, ?_⟩
    cases keepS x.2.1 (pstT p lim x) (tm + wst s.1 7) (wS s.1 p) with
    | none => exact ⟨rfl, Or.inr rfl⟩
    | some S' => exact ⟨rfl, Or.inl rfl⟩
  · rw [if_neg c]; exact Or.inr ⟨c, rfl, rfl⟩
theorem FTw_sto {lim : Nat} {x : Trm} {s : Wd × VV} {e : Ent} : FTw t s.1 (stoN N own sd tm t p lim x s e).1 := by
  rcases stoN_w (N := N) (own := own) (sd := sd) (tm := tm) (t := t) (p := p) (lim := lim) (x := x) (s := s) (e := e) with h | h
  · intro q t' _; rw [h.2.1]
  · rw [h.2.1]; exact FTw_ask (Or.inl rfl)
theorem FT_stoF {lim : Nat} {x : Trm} : ∀ (F : List Ent) (s : Wd × VV), FTw t s.1 (F.foldl (stoN N own sd tm t p lim x) s).1 ∧ FTs t (vI s.2 229 t) s.2 (F.foldl (stoN N own sd tm t p lim x) s).2
  | [], s => ⟨.refl, .refl⟩
  | e :: F, s => by
    rw [List.foldl_cons]
    obtain ⟨h1, h2⟩ := FT_stoF (lim := lim) (x := x) F (stoN N own sd tm t p lim x s e)
    rw [stoN_ne (by omega)] at h2
    exact ⟨FTw_sto.trans h1, (FTs_sto rfl).trans h2⟩
theorem FT_sto : FT t Y (stoY m N own sd tm Lb t Y) := by
  unfold stoY
  obtain ⟨h1, h2⟩ := FT_stoF (N := N) (own := own) (sd := sd) (tm := tm) (t := t) (p := yp Y t) (lim := (yv Y 243 t).toNat) (x := trY Lb t Y) (frontE m (yl Y t).2.2.1) (dtW t (yw Y), st2 (st2 (ys Y) 230 t 2) 245 t 0)
  have e : vI (st2 (st2 (ys Y) 230 t 2) 245 t 0) 229 t = yv Y 229 t := by rw [vI_ne (by omega), vI_ne (by omega)]
  have g : ∀ a, a = 227 ∨ a = 228 ∨ a = 229 → vI ((frontE m (yl Y t).2.2.1).foldl (stoN N own sd tm t (yp Y t) (yv Y 243 t).toNat (trY Lb t Y)) (dtW t (yw Y), st2 (st2 (ys Y) 230 t 2) 245 t 0)).2 a t = yv Y a t := fun a z => by
    rw [stoF_ne (s := (dtW t (yw Y), st2 (st2 (ys Y) 230 t 2) 245 t 0)) (by omega)]
    show vI (st2 (st2 (ys Y) 230 t 2) 245 t 0) a t = _
    rw [vI_ne (by omega), vI_ne (by omega)]
  rw [e] at h2
  exact ⟨FTw_dt.trans h1, fun _ _ => rfl, ((FTs_st (Or.inl ⟨by omega, rfl⟩)).trans (FTs_st (Or.inl ⟨by omega, rfl⟩))).trans h2, ⟨g _ (by omega), g _ (by omega), g _ (by omega)⟩, .refl⟩
theorem FTq_ar {o : List Nat} : FTq t r q0 (arQ t o q0) := ⟨fun t' z => ⟨fup_ne z, fup_ne z, fup_ne z, fup_ne z⟩, rfl, fun _ _ => rfl, fun _ _ => rfl⟩
theorem FT_hz {i : Nat} : FT t Y (hldZ m own t i Y) := by
  unfold hldZ
  by_cases c : ((i + 1 : Nat) : Int) < yv Y 247 t
  · rw [if_pos c]; exact FT_lk
  · rw [if_neg c]
    have g : ∀ a v, a ≠ 254 → a ≠ 230 → vI (st2 (st2 (ys Y) 254 t 0) 230 t v) a t = yv Y a t := fun a v z1 z2 => by rw [vI_ne (by omega), vI_ne (by omega)]
    exact ⟨FTw_dt, fun _ _ => rfl, (FTs_st (Or.inl ⟨by omega, rfl⟩)).trans (FTs_st (Or.inl ⟨by omega, rfl⟩)), ⟨g _ _ (by omega) (by omega), g _ _ (by omega) (by omega), g _ _ (by omega) (by omega)⟩, FTq_ar⟩
theorem FT_hld (hr : 0 ≤ yv Y 229 t) (hi : (yv Y 248 t).toNat < 3) : FT t Y (hldY m own t Y) := by
  unfold hldY
  cases hldE (own (yp Y t)) (qK (yq Y) (3 * t + (yv Y 248 t).toNat)) (wS (yw Y) (yp Y t)) (frontE m (yl Y t).2.2.1) with
  | none => exact FT_tl hr
  | some x =>
    dsimp only
    obtain ⟨s, hs⟩ : ∃ s, s = st2 (st2 (st2 (ys Y) 250 (3 * t + (yv Y 248 t).toNat) (eAdr x)) 252 (3 * t + (yv Y 248 t).toNat) (hcE (own (yp Y t)) (qK (yq Y) (3 * t + (yv Y 248 t).toNat)) (wS (yw Y) (yp Y t)) x)) 248 t (yv Y 248 t + 1) := ⟨_, rfl⟩
    have g : ∀ a, a = 227 ∨ a = 228 ∨ a = 229 → vI s a t = yv Y a t := fun a z => by rw [hs, vI_ne (by omega), vI_ne (by omega), vI_ne (by omega)]
    have f : FTs t (yv Y 229 t) (ys Y) s := by
      rw [hs]
      exact ((FTs_st (Or.inr (Or.inl ⟨by omega, by omega, by omega⟩))).trans (FTs_st (Or.inr (Or.inl ⟨by omega, by omega, by omega⟩)))).trans (FTs_st (Or.inl ⟨by omega, rfl⟩))
    rw [← hs]
    exact FT.trans (Y1 := (yw Y, yl Y, s, hdQ (3 * t + (yv Y 248 t).toNat) (eKey x) (yq Y))) ⟨.refl, fun _ _ => rfl, f, ⟨g _ (by omega), g _ (by omega), g _ (by omega)⟩, ⟨fun _ _ => ⟨rfl, rfl, rfl, rfl⟩, rfl, fun i z => fup_ne (fun e => z (by omega)), fun _ _ => rfl⟩⟩ FT_hz
/-- words and lists of a query change -/
theorem FT_q {sc' : VV} {q' : Qs} (hs : FTs t (yv Y 229 t) (ys Y) sc') (h3 : ∀ a, a = 227 ∨ a = 228 ∨ a = 229 → vI sc' a t = yv Y a t) (hq : FTq t (yv Y 229 t) (yq Y) q') : FT t Y (yw Y, yl Y, sc', q') := ⟨.refl, fun _ _ => rfl, hs, ⟨h3 _ (by omega), h3 _ (by omega), h3 _ (by omega)⟩, hq⟩
theorem FTq_ls {L : List It} {f : List Bool} : FTq t r q0 (lstQ t L f q0) := ⟨fun t' z => ⟨fup_ne z, fup_ne z, rfl, rfl⟩, rfl, fun _ _ => rfl, fun _ _ => rfl⟩
theorem FT_tb {hs : Int} {bs : List Int} : FT t Y (tbY t hs bs Y) := FT_q ((FTs_st (Or.inl ⟨by omega, rfl⟩)).trans (FTs_st (Or.inl ⟨by omega, rfl⟩))) (fun a z => by rw [vI_ne (by omega), vI_ne (by omega)]) ⟨fun t' z => ⟨rfl, rfl, fup_ne z, rfl⟩, rfl, fun _ _ => rfl, fun _ _ => rfl⟩
theorem FT_rnk (hr : 0 ≤ yv Y 229 t) : FT t Y (rnkY t Y) := FT_tl hr
theorem FT_tm {more : Bool} {tl : List It} (hr : 0 ≤ yv Y 229 t) : FT t Y (tmY t more tl Y) := by
  unfold tmY
  have f1 : ∀ v L, FT t Y (yw Y, yl Y, st2 (ys Y) 254 t v, lstQ t L [] (yq Y)) := fun v L => FT_q (FTs_st (Or.inl ⟨by omega, rfl⟩)) (fun a z => vI_ne (by omega)) FTq_ls
  by_cases c : more = true ∧ (tl.foldl addL (qL (yq Y) t)).length < 200
  · rw [if_pos c]; exact f1 _ _
  · rw [if_neg c]
    by_cases d : tl.foldl addL (qL (yq Y) t) = [] ∨ yv Y 247 t = 1
    · rw [if_pos d]
      refine (f1 _ _).trans (FT_rnk ?_)
      rw [(f1 _ _).2.2.2.1.2.2]; exact hr
    · rw [if_neg d]
      exact FT_q ((((FTs_st (Or.inl ⟨by omega, rfl⟩)).trans (FTs_st (Or.inl ⟨by omega, rfl⟩))).trans (FTs_st (Or.inl ⟨by omega, rfl⟩))).trans (FTs_st (Or.inl ⟨by omega, rfl⟩))) (fun a z => by rw [vI_ne (by omega), vI_ne (by omega), vI_ne (by omega), vI_ne (by omega)]) FTq_ls
theorem FT_tc {tl : List It} (hr : 0 ≤ yv Y 229 t) : FT t Y (tcY t tl Y) := by
  unfold tcY
  have f1 : ∀ v v' L, FT t Y (yw Y, yl Y, st2 (st2 (ys Y) 263 t v) 264 t v', lstQ t L [] (yq Y)) := fun v v' L => FT_q ((FTs_st (Or.inl ⟨by omega, rfl⟩)).trans (FTs_st (Or.inl ⟨by omega, rfl⟩))) (fun a z => by rw [vI_ne (by omega), vI_ne (by omega)]) FTq_ls
  by_cases c : (yv Y 264 t).toNat + 30 < (qL (yq Y) t).length
  · rw [if_pos c]; exact FT_q (FTs_st (Or.inl ⟨by omega, rfl⟩)) (fun a z => vI_ne (by omega)) FTq_ls
  · rw [if_neg c]
    by_cases d : sftL (tcL (yv Y 264 t).toNat tl (qL (yq Y) t)) (tcF (yv Y 264 t).toNat tl (qL (yq Y) t) (qF (yq Y) t)) = [] ∨ yv Y 247 t ≤ (if yv Y 263 t = 0 then 2 else 3)
    · rw [if_pos d]
      refine (f1 _ _ _).trans (FT_rnk ?_)
      rw [(f1 _ _ _).2.2.2.1.2.2]; exact hr
    · rw [if_neg d]; exact f1 _ _ _
theorem FT_aq : FT t Y (askQ N own sd tm t ty bd Y) := by
  unfold askQ
  have f : FT t Y ((askY N own sd tm (dtW t (yw Y)) (yp Y t) (yv Y 250 (qQ Y t)) ty (qH (yq Y) (qQ Y t)) bd (some t) none).1, yl Y, raS t (ys Y), yq Y) := ⟨FTw_dt.trans (FTw_ask (Or.inl rfl)), fun _ _ => rfl, FTs_ra rfl, ⟨raS_ne (by decide), raS_ne (by decide), raS_ne (by decide)⟩, .refl⟩
  by_cases c : (askY N own sd tm (dtW t (yw Y)) (yp Y t) (yv Y 250 (qQ Y t)) ty (qH (yq Y) (qQ Y t)) bd (some t) none).2 = true
  · rw [if_pos c]; exact f
  · rw [if_neg c]; exact f.trans FT_cl
theorem FT_qon (hr : 0 ≤ yv Y 229 t) : FT t Y (qonY N own sd tm t Y).2 := by
  unfold qonY
  have f : FT t Y (setW Y (dtW t (yw Y))) := FT_w FTw_dt
  by_cases c3 : yv Y 230 t = 3
  · rw [if_pos c3]
    by_cases o : qH (yq Y) (qQ Y t) = own (yp Y t)
    · rw [if_pos o]; exact f.trans FT_tb
    · rw [if_neg o]; exact FT_aq
  · rw [if_neg c3]
    by_cases c4 : yv Y 230 t = 4
    · rw [if_pos c4]
      by_cases o : qH (yq Y) (qQ Y t) = own (yp Y t)
      · rw [if_pos o]; exact f.trans (FT_tm hr)
      · rw [if_neg o]; exact FT_aq
    · rw [if_neg c4]
      by_cases o : qH (yq Y) (qQ Y t) = own (yp Y t)
      · rw [if_pos o]; exact f.trans (FT_tc hr)
      · rw [if_neg o]; exact FT_aq
/-- lookups: what they ask -/
theorem lkOn_w {rc : Int} {tgt : Ky} : ∀ (n : Nat) (s : LSt), FTw t s.1 (lkOn m al N own sd tm p t rc tgt vals n s).2.1 ∧ (∀ q y, y ∈ wQ (lkOn m al N own sd tm p t rc tgt vals n s).2.1 q → qWrk y = some t → y ∈ wQ s.1 q ∨ (q = p ∧ qTyp y = tyL vals)) ∧ ∀ i : Nat, ¬ (0 ≤ rc ∧ i = rc.toNat) → (lkOn m al N own sd tm p t rc tgt vals n s).2.2.2.2 i = s.2.2.2 i
  | 0, s => ⟨.refl, fun _ _ h _ => Or.inl h, fun _ _ => rfl⟩
  | n + 1, s => by
    by_cases c : allE (frontE m s.2.1) = true
    · rw [lkOn_all c]; exact ⟨.refl, fun _ _ h _ => Or.inl h, fun _ _ => rfl⟩
    · have c : allE (frontE m s.2.1) = false := by cases h : allE (frontE m s.2.1) with | true => exact absurd h c | false => rfl
      cases e : nextE (frontE m s.2.1) with
      | none => rw [lkOn_none c (Or.inl e)]; exact ⟨.refl, fun _ _ h _ => Or.inl h, fun _ _ => rfl⟩
      | some x =>
        by_cases d : (al : Int) ≤ s.2.2.1
        · rw [lkOn_none c (Or.inr d)]; exact ⟨.refl, fun _ _ h _ => Or.inl h, fun _ _ => rfl⟩
        · rw [lkOn_ask c e d]
          obtain ⟨i1, i2, i3⟩ := lkOn_w (rc := rc) (tgt := tgt) n (askN N own sd tm p t rc tgt vals s x)
          refine ⟨(FTw_ask (Or.inl rfl)).trans i1, fun q y hy hw => ?_, fun i z => ?_⟩
          · rcases i2 q y hy hw with h | h
            · rcases ask_mem h with h | h
              · exact Or.inl h
              · exact Or.inr ⟨h.1, h.2.2⟩
            · exact Or.inr h
          · rw [i3 i z]
            show raU rc s.2.2.2 i = _
            unfold raU
            by_cases g : 0 ≤ rc
            · rw [if_pos g]; exact fup_ne (fun e => z ⟨g, e⟩)
            · rw [if_neg g]
theorem ps_v {s : LSt} {a i : Nat} (h : a ≠ 268) : yv (putS Y t s) a i = yv Y a i := by
  show w32 ((if a = 268 then s.2.2.2 i else ys Y a i)) = w32 (ys Y a i)
  rw [if_neg h]
theorem FT_lok : FT t Y (lokY m al N own sd tm t Y).2 := by
  unfold lokY
  obtain ⟨h1, _, h3⟩ := lkOn_w (m := m) (al := al) (N := N) (own := own) (sd := sd) (tm := tm) (p := yp Y t) (t := t) (rc := yv Y 229 t) (tgt := (yl Y t).1) (vals := (yl Y t).2.1) 65 (lsY Y t)
  obtain ⟨s, hs⟩ : ∃ s, s = (lkOn m al N own sd tm (yp Y t) t (yv Y 229 t) (yl Y t).1 (yl Y t).2.1 65 (lsY Y t)).2 := ⟨_, rfl⟩
  rw [← hs] at h1 h3
  dsimp only
  rw [← hs]
  refine ⟨h1, fun t' z => fup_ne z, fun a i z => ?_, ⟨ps_v (by decide), ps_v (by decide), ps_v (by decide)⟩, .refl⟩
  by_cases e : a = 268
  · rw [e] at z ⊢
    show w32 (if 268 = 268 then s.2.2.2 i else ys Y 268 i) = vI (ys Y) 268 i
    rw [if_pos rfl, h3 i (fun g => z (Or.inr (Or.inr ⟨by omega, g⟩)))]
    show w32 (w32 (ys Y 268 i)) = w32 (ys Y 268 i)
    exact w32_w32 _
  · exact ps_v e
end WFRAME
