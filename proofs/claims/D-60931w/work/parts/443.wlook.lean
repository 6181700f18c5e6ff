/-! a lookup, a storing and a holder keep what is so of the work -/
section WLOOK
variable {m al N p q t t' : Nat} {own : Nat → Ky} {sd : Nat → Int} {tm ad ty how r : Int} {w : Wd} {Y Y1 : Ys} {Lb : Nat → List Trm} {key : Ky} {bd : List Int} {vals : Bool}
theorem lok_v {a i : Nat} (h : a ≠ 268) : yv (lokY m al N own sd tm t Y).2 a i = yv Y a i := ps_v h
theorem lok_p : yp (lokY m al N own sd tm t Y).2 t = yp Y t := FT_p FT_lok
/-- a lookup goes on -/
theorem wOK_lok (h : wOK N own Lb Y t) (hg : yv Y 226 t ≠ 0) (h1 : yv Y 230 t = 1) : wOK N own Lb (lokY m al N own sd tm t Y).2 t ∧ mu own (lokY m al N own sd tm t Y).2 t = mu own Y t := by
  obtain ⟨hh, hk⟩ := wOK_hd h hg
  obtain ⟨Y1, hY⟩ : ∃ Y1, Y1 = (lokY m al N own sd tm t Y).2 := ⟨_, rfl⟩
  have v : ∀ a i, a ≠ 268 → yv Y1 a i = yv Y a i := fun a i z => by rw [hY]; exact lok_v z
  have f : FT t Y Y1 := by rw [hY]; exact FT_lok
  have vp : yp Y1 t = yp Y t := FT_p f
  have vq : yq Y1 = yq Y := by rw [hY]; rfl
  have vl : (yl Y1 t).2.1 = (yl Y t).2.1 := by rw [hY]; show (fup (yl Y) t _ t).2.1 = _; rw [fup_eq]
  rw [← hY]
  refine ⟨wOK_mk (hd_ft hh f (v _ _ (by decide))) (fun q y hy hw => ?_) ?_, ?_⟩
  · obtain ⟨_, h2, _⟩ := lkOn_w (m := m) (al := al) (N := N) (own := own) (sd := sd) (tm := tm) (p := yp Y t) (t := t) (rc := yv Y 229 t) (tgt := (yl Y t).1) (vals := (yl Y t).2.1) 65 (lsY Y t)
    have e : tyS Y1 t = tyL (yl Y t).2.1 := by unfold tyS; rw [v _ _ (by decide), if_pos h1, vl]
    rw [e, vp]
    rw [hY] at hy
    rcases h2 q y hy hw with z | z
    · obtain ⟨_, a2, a3⟩ := h.2.1 q y z hw
      refine ⟨a2, ?_⟩
      rw [a3]; unfold tyS; rw [if_pos h1]
    · exact z
  · unfold kOK
    rcases hk with ⟨k1, k2, k3, k4, k5⟩ | ⟨k1, k2, k3⟩ | ⟨k1, k2, k3, k4, k5, k6, k7⟩ | ⟨k1, k2, k3, k4, k5⟩
    · refine Or.inl ?_
      rw [v _ _ (by decide), v _ _ (by decide), v _ _ (by decide), v _ _ (by decide)]
      exact ⟨k1, k2, k3, k4, k5⟩
    · refine Or.inr (Or.inl ?_)
      rw [v _ _ (by decide), v _ _ (by decide)]
      exact ⟨k1, k2, k3⟩
    · refine Or.inr (Or.inr (Or.inl ?_))
      rw [v _ _ (by decide), v _ _ (by decide), v _ _ (by decide), v _ _ (by decide), v _ _ (by decide), vp]
      exact ⟨k1, k2, k3, k4, k5, k6, fun z => by rw [h1] at z; exact absurd z (by decide)⟩
    · refine Or.inr (Or.inr (Or.inr ?_))
      rw [v 227 _ (by decide), v 229 _ (by decide), v 269 _ (by decide), v 247 _ (by decide), v 230 _ (by decide), v 248 _ (by decide)]
      refine ⟨k1, k2, k3, k4, Or.inl ?_⟩
      rcases k5 with ⟨g1, g2, g3⟩ | ⟨g1, _⟩
      · exact ⟨g1, g2, fun i hi => by rw [v _ _ (by decide)]; exact g3 i hi⟩
      · have := g1.2.1; omega
  · unfold mu
    rw [v 226 _ (by decide), v 227 _ (by decide), v 242 _ (by decide), v 244 _ (by decide), v 230 _ (by decide), v 248 _ (by decide), v 254 _ (by decide), v 263 _ (by decide), v 264 _ (by decide), v 247 _ (by decide), vq, vp]
theorem stoN_c {lim : Nat} {x : Trm} {s : Wd × VV} {e : Ent} (h : ((cnA p t s.1 : Nat) : Int) = vI s.2 245 t) (hb : cnA p t s.1 ≤ 1000) (hm : ∀ q y, y ∈ wQ s.1 q → qWrk y = some t → q = p ∧ qTyp y = 7) : ((cnA p t (stoN N own sd tm t p lim x s e).1 : Nat) : Int) = vI (stoN N own sd tm t p lim x s e).2 245 t ∧ cnA p t (stoN N own sd tm t p lim x s e).1 ≤ cnA p t s.1 + 1 ∧ ∀ q y, y ∈ wQ (stoN N own sd tm t p lim x s e).1 q → qWrk y = some t → q = p ∧ qTyp y = 7 := by
  rcases stoN_w (N := N) (own := own) (sd := sd) (tm := tm) (t := t) (p := p) (lim := lim) (x := x) (s := s) (e := e) with ⟨_, h2, h3⟩ | ⟨_, h2, h3⟩
  · have e2 : cnA p t (stoN N own sd tm t p lim x s e).1 = cnA p t s.1 := by unfold cnA; rw [h2]
    have e3 : vI (stoN N own sd tm t p lim x s e).2 245 t = vI s.2 245 t := by
      rcases h3 with z | z
      · rw [z]; exact stdS_ne (by decide) (by decide)
      · rw [z]; exact stdS_ne (by decide) (by decide)
    rw [e2, e3, h2]
    exact ⟨h, by omega, hm⟩
  · rw [h2, h3, cnA_ask]
    refine ⟨?_, ?_, fun q y hy hw => ?_⟩
    · by_cases c : (askY N own sd tm s.1 p (eAdr e) 7 (eKey e) (stB x p lim) (some t) none).2 = true
      · rw [if_pos c, if_pos c, vI_eq rfl, raS_ne (by decide), ← h, w32s (by omega)]
        omega
      · rw [if_neg c, if_neg c, vI_ne (by omega), raS_ne (by decide), ← h]
        rfl
    · by_cases c : (askY N own sd tm s.1 p (eAdr e) 7 (eKey e) (stB x p lim) (some t) none).2 = true
      · rw [if_pos c]; omega
      · rw [if_neg c]; omega
    · rcases ask_mem hy with z | z
      · exact hm q y z hw
      · exact ⟨z.1, z.2.2⟩
theorem stoF_c {lim : Nat} {x : Trm} : ∀ (F : List Ent) (s : Wd × VV), ((cnA p t s.1 : Nat) : Int) = vI s.2 245 t → cnA p t s.1 + F.length ≤ 1000 → (∀ q y, y ∈ wQ s.1 q → qWrk y = some t → q = p ∧ qTyp y = 7) → ((cnA p t (F.foldl (stoN N own sd tm t p lim x) s).1 : Nat) : Int) = vI (F.foldl (stoN N own sd tm t p lim x) s).2 245 t ∧ ∀ q y, y ∈ wQ (F.foldl (stoN N own sd tm t p lim x) s).1 q → qWrk y = some t → q = p ∧ qTyp y = 7
  | [], s, h, _, hm => ⟨h, hm⟩
  | e :: F, s, h, hb, hm => by
    rw [List.foldl_cons]
    rw [List.length_cons] at hb
    obtain ⟨a1, a2, a3⟩ := stoN_c (N := N) (own := own) (sd := sd) (tm := tm) (lim := lim) (x := x) (e := e) h (by omega) hm
    exact stoF_c F _ a1 (by omega) a3
/-- postings are stored -/
theorem wOK_sto (hh : hdW N Y t) (hk : yv Y 227 t = 2) (hl : 0 ≤ yv Y 243 t ∧ yv Y 243 t ≤ 16) (h4 : 0 ≤ yv Y 244 t) (h5 : (yv Y 244 t).toNat < (pbT (yv Y 243 t).toNat (Lb (yp Y t))).length) (h6 : yv Y 246 t = 0 ∨ yv Y 246 t = 1) (hm : m ≤ 20) : wOK N own Lb (stoY m N own sd tm Lb t Y) t ∧ cz0 (stoY m N own sd tm Lb t Y) t ∧ mu own (stoY m N own sd tm Lb t Y) t = 2 * (64 - yv Y 244 t).toNat := by
  obtain ⟨Y1, hY⟩ : ∃ Y1, Y1 = stoY m N own sd tm Lb t Y := ⟨_, rfl⟩
  have f : FT t Y Y1 := by rw [hY]; exact FT_sto
  have vp : yp Y1 t = yp Y t := FT_p f
  have fl : (frontE m (yl Y t).2.2.1).length ≤ 20 := by unfold frontE; rw [List.length_take]; omega
  obtain ⟨c1, c2⟩ := stoF_c (N := N) (own := own) (sd := sd) (tm := tm) (t := t) (p := yp Y t) (lim := (yv Y 243 t).toNat) (x := trY Lb t Y) (frontE m (yl Y t).2.2.1) (dtW t (yw Y), st2 (st2 (ys Y) 230 t 2) 245 t 0) (by rw [cnA_dt, vI_eq rfl]; rfl) (by rw [cnA_dt]; omega) (fun q y hy hw => absurd hw (dt_none hy))
  have g : ∀ a, a ≠ 245 ∧ a ≠ 246 ∧ a ≠ 268 ∧ a ≠ 269 → a ≠ 230 → ∀ i, yv Y1 a i = yv Y a i := fun a z z2 i => by
    rw [hY]
    show vI ((frontE m (yl Y t).2.2.1).foldl (stoN N own sd tm t (yp Y t) (yv Y 243 t).toNat (trY Lb t Y)) (dtW t (yw Y), st2 (st2 (ys Y) 230 t 2) 245 t 0)).2 a i = _
    rw [stoF_ne (s := (dtW t (yw Y), st2 (st2 (ys Y) 230 t 2) 245 t 0)) z]
    show vI (st2 (st2 (ys Y) 230 t 2) 245 t 0) a i = _
    rw [vI_ne (by omega), vI_ne (by omega)]
  have g0 : yv Y1 230 t = 2 := by
    rw [hY]
    show vI ((frontE m (yl Y t).2.2.1).foldl (stoN N own sd tm t (yp Y t) (yv Y 243 t).toNat (trY Lb t Y)) (dtW t (yw Y), st2 (st2 (ys Y) 230 t 2) 245 t 0)).2 230 t = _
    rw [stoF_ne (s := (dtW t (yw Y), st2 (st2 (ys Y) 230 t 2) 245 t 0)) (by omega)]
    show vI (st2 (st2 (ys Y) 230 t 2) 245 t 0) 230 t = _
    rw [vI_ne (by omega), vI_eq rfl]; rfl
  have g6 : yv Y1 246 t = 0 ∨ yv Y1 246 t = 1 := by
    rw [hY]
    exact stoF_6 _ _ (by show vI (st2 (st2 (ys Y) 230 t 2) 245 t 0) 246 t = 0 ∨ vI (st2 (st2 (ys Y) 230 t 2) 245 t 0) 246 t = 1; rw [vI_ne (by omega), vI_ne (by omega)]; exact h6)
  have cc : ((cnA (yp Y t) t (yw Y1) : Nat) : Int) = yv Y1 245 t := by rw [hY]; exact c1
  have cm : ∀ q y, y ∈ wQ (yw Y1) q → qWrk y = some t → q = yp Y t ∧ qTyp y = 7 := by rw [hY]; exact c2
  rw [← hY]
  refine ⟨wOK_mk (hd_ft hh f (g _ (by omega) (by omega) _)) (fun q y hy hw => ?_) (Or.inr (Or.inr (Or.inl ⟨?_, Or.inr g0, ?_, ?_, ?_, g6, fun _ => ?_⟩))), fun z => by omega, ?_⟩
  · rw [vp]
    have e : tyS Y1 t = 7 := by unfold tyS; rw [g0, if_neg (by decide), if_pos rfl]
    rw [e]; exact cm q y hy hw
  · rw [g _ (by omega) (by omega)]; exact hk
  · rw [g _ (by omega) (by omega)]; exact hl
  · rw [g _ (by omega) (by omega)]; exact h4
  · rw [g _ (by omega) (by omega), g _ (by omega) (by omega), vp]; exact h5
  · rw [vp]; exact cc
  · unfold mu
    rw [g 226 (by omega) (by omega), hh.1, if_neg (by decide), g 227 (by omega) (by omega), hk, if_neg (by decide), if_neg (by decide), if_pos rfl, g0, if_neg (by decide), g 244 (by omega) (by omega)]
    rfl
end WLOOK
