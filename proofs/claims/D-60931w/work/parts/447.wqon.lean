/-- a query waits for another peer -/
def rmt (own : Nat → Ky) (Y : Ys) (t : Nat) : Prop := yv Y 226 t ≠ 0 → 3 ≤ yv Y 230 t → qH (yq Y) (qQ Y t) ≠ own (yp Y t)
section WQON
variable {m al N p q t t' : Nat} {own : Nat → Ky} {sd : Nat → Int} {tm ad ty how r : Int} {w : Wd} {Y Y1 : Ys} {Lb : Nat → List Trm} {key : Ky} {bd : List Int} {vals : Bool} {ev : Nat → Nat} {tl : List It} {more : Bool}
theorem wOK_q (h : wOK N own Lb Y t) (hg : yv Y 226 t ≠ 0) (h1 : yv Y 230 t ≠ 1) (h2 : yv Y 230 t ≠ 2) : hdW N Y t ∧ yv Y 227 t = 3 ∧ t < 12 ∧ yv Y 269 (yv Y 229 t).toNat = 0 ∧ qOK own Y t ∧ cnA (yp Y t) t (yw Y) ≤ 1 := by
  obtain ⟨hh, hk⟩ := wOK_hd h hg
  rcases hk with hk | hk | hk | ⟨k1, k2, k3, k4, k5⟩
  · omega
  · omega
  · omega
  · rcases k5 with k5 | k5
    · omega
    · exact ⟨hh, k1, k2, k3, k5.1, k5.2⟩
/-- a query that goes on with other words and lists -/
theorem wOK_qmk (hh : hdW N Y t) (f : FT t Y Y1) (h6 : yv Y1 226 t = yv Y 226 t) (hk : yv Y 227 t = 3) (ht : t < 12) (h9 : yv Y1 269 (yv Y 229 t).toNat = 0) (hq : qOK own Y1 t) (hn : ∀ q y, y ∈ wQ (yw Y1) q → qWrk y ≠ some t) : wOK N own Lb Y1 t ∧ cz0 Y1 t := by
  have cn : cnA (yp Y1 t) t (yw Y1) = 0 := by
    unfold cnA
    rw [List.countP_eq_zero]
    intro y hy
    have := hn _ y hy
    simpa using this
  refine ⟨wOK_mk (hd_ft hh f h6) (fun q y hy hw => absurd hw (hn q y hy)) (Or.inr (Or.inr (Or.inr ⟨f.2.2.2.1.1.trans hk, ht, ?_, hq.1, Or.inr ⟨hq, by omega⟩⟩))), fun _ => cn⟩
  rw [f.2.2.2.1.2.2]; exact h9
theorem qQ_of (h : ∀ a, a = 230 ∨ a = 247 ∨ a = 263 → yv Y1 a t = yv Y a t) (hO : qO (yq Y1) t = qO (yq Y) t) : qQ Y1 t = qQ Y t := by
  unfold qQ qI
  rw [h 230 (by omega), h 247 (by omega), h 263 (by omega), hO]
theorem tl_9 {n : Nat} {l : List Int} : yv (tlY t n l Y) 226 t = 0 := clS_0
/-- a holder is asked -/
theorem wOK_aq (h : wOK N own Lb Y t) (hg : yv Y 226 t ≠ 0) (h1 : yv Y 230 t ≠ 1) (h2 : yv Y 230 t ≠ 2) (hty : ty = tyS Y t) (hr : qH (yq Y) (qQ Y t) ≠ own (yp Y t)) : wOK N own Lb (askQ N own sd tm t ty bd Y) t ∧ rmt own (askQ N own sd tm t ty bd Y) t ∧ mu own (askQ N own sd tm t ty bd Y) t ≤ mu own Y t ∧ (yv (askQ N own sd tm t ty bd Y) 226 t ≠ 0 → pgQ own Y t → pgQ own (askQ N own sd tm t ty bd Y) t) := by
  obtain ⟨hh, hk, ht, h9, hq, _⟩ := wOK_q h hg h1 h2
  have ff : FT t Y (askQ N own sd tm t ty bd Y) := FT_aq
  unfold askQ at ff ⊢
  by_cases c : (askY N own sd tm (dtW t (yw Y)) (yp Y t) (yv Y 250 (qQ Y t)) ty (qH (yq Y) (qQ Y t)) bd (some t) none).2 = true
  · rw [if_pos c] at ff ⊢
    obtain ⟨Y1, hY⟩ : ∃ Y1 : Ys, Y1 = ((askY N own sd tm (dtW t (yw Y)) (yp Y t) (yv Y 250 (qQ Y t)) ty (qH (yq Y) (qQ Y t)) bd (some t) none).1, yl Y, raS t (ys Y), yq Y) := ⟨_, rfl⟩
    rw [← hY] at ff ⊢
    have v : ∀ a i, a ≠ 268 → yv Y1 a i = yv Y a i := fun a i z => by rw [hY]; exact raS_ne z
    have eq : yq Y1 = yq Y := by rw [hY]
    have el : yl Y1 = yl Y := by rw [hY]
    have vp : yp Y1 t = yp Y t := FT_p ff
    have hq1 : qOK own Y1 t := qOK_of hq (fun a z => v a t (by omega)) (fun i _ => v _ _ (by omega)) vp (by rw [eq]) (fun _ _ => by rw [eq]) (by rw [eq]) (by rw [eq]) (by rw [eq])
    have ty1 : tyS Y1 t = tyS Y t := by unfold tyS; rw [v _ _ (by omega), el]
    have eQ : qQ Y1 t = qQ Y t := qQ_of (fun a z => v a t (by omega)) (by rw [eq])
    refine ⟨wOK_mk (hd_ft hh ff (v _ _ (by omega))) (fun q y hy hw => ?_) (Or.inr (Or.inr (Or.inr ⟨by rw [v _ _ (by omega)]; exact hk, ht, by rw [v _ _ (by omega), v _ _ (by omega)]; exact h9, hq1.1, Or.inr ⟨hq1, ?_⟩⟩))), fun _ _ => by rw [eQ, vp, eq]; exact hr, ?_, fun _ pg => ?_⟩
    · rw [hY] at hy
      rcases ask_mem hy with z | z
      · exact absurd hw (dt_none z)
      · rw [vp, ty1, ← hty]; exact ⟨z.1, z.2.2⟩
    · rw [vp, hY]
      show cnA (yp Y t) t (askY N own sd tm (dtW t (yw Y)) (yp Y t) (yv Y 250 (qQ Y t)) ty (qH (yq Y) (qQ Y t)) bd (some t) none).1 ≤ 1
      rw [cnA_ask, cnA_dt, if_pos c]
      omega
    · unfold mu
      rw [v 226 _ (by omega), v 227 _ (by omega), v 242 _ (by omega), v 244 _ (by omega), v 230 _ (by omega), v 248 _ (by omega), v 254 _ (by omega), v 263 _ (by omega), v 264 _ (by omega), v 247 _ (by omega), eq, vp]
      exact Nat.le_refl _
    · refine ⟨fun z => ?_, fun _ z => absurd z ?_⟩
      · rw [v _ _ (by omega)] at z ⊢
        rw [eq]; exact pg.1 z
      · rw [eQ, vp, eq]; exact hr
  · rw [if_neg c] at ff ⊢
    obtain ⟨a1, a2, a3⟩ := wOK_cl (N := N) (own := own) (Lb := Lb) (t := t) (how := 2) (Y := ((askY N own sd tm (dtW t (yw Y)) (yp Y t) (yv Y 250 (qQ Y t)) ty (qH (yq Y) (qQ Y t)) bd (some t) none).1, yl Y, raS t (ys Y), yq Y))
    exact ⟨a1, fun z => absurd a3 z, by rw [a2]; omega, fun z => absurd a3 z⟩
theorem qI4 (h4 : yv Y 230 t = 4) : qQ Y t = 3 * t + (qO (yq Y) t).getD (if yv Y 247 t = 1 then 0 else 1) 0 := by
  unfold qQ qI
  rw [h4, if_neg (by decide), if_pos rfl]
/-- MATCHES come from elsewhere or from the own postings -/
theorem LI_tm (h : wOK N own Lb Y t) (hg : yv Y 226 t ≠ 0) (h4 : yv Y 230 t = 4) (hn : ∀ q y, y ∈ wQ (yw Y) q → qWrk y ≠ some t) (hok : okM tl) (hc : qH (yq Y) (qQ Y t) ≠ own (yp Y t) ∨ (qH (yq Y) (qQ Y t) = own (yp Y t) ∧ pgQ own Y t ∧ okSt (wS (yw Y) (yp Y t)) ∧ more = moreS (yv Y 254 t).toNat (mtQ Y t) ∧ tl = pageS (yv Y 254 t).toNat (mtQ Y t))) : LI N own Lb (tmY t more tl Y) t ∧ mu own (tmY t more tl Y) t ≤ mu own Y t ∧ (qH (yq Y) (qQ Y t) = own (yp Y t) → mu own (tmY t more tl Y) t < mu own Y t) := by
  obtain ⟨hh, hk, ht, h9, hq, _⟩ := wOK_q h hg (by omega) (by omega)
  have hr : 0 ≤ yv Y 229 t := hh.2.2.1 ht
  have ff : FT t Y (tmY t more tl Y) := FT_tm hr
  have q4 := qI4 h4
  have m4 : mu own Y t = 1000 + (if qH (yq Y) (3 * t + (qO (yq Y) t).getD (if yv Y 247 t = 1 then 0 else 1) 0) = own (yp Y t) then (230 - yv Y 254 t).toNat else 0) := by rw [mu_q hk hh.1, h4, if_neg (by decide), if_neg (by decide), if_pos rfl]
  have hw : yw (tmY t more tl Y) = yw Y ∨ yv (tmY t more tl Y) 226 t = 0 := by
    unfold tmY
    by_cases c : more = true ∧ (tl.foldl addL (qL (yq Y) t)).length < 200
    · rw [if_pos c]; exact Or.inl rfl
    · rw [if_neg c]
      by_cases d : tl.foldl addL (qL (yq Y) t) = [] ∨ yv Y 247 t = 1
      · rw [if_pos d]; exact Or.inr clS_0
      · rw [if_neg d]; exact Or.inl rfl
  have hcl : wOK N own Lb (tmY t more tl Y) t ∧ mu own (tmY t more tl Y) t = 0 ∨ yv (tmY t more tl Y) 226 t ≠ 0 := by
    unfold tmY
    by_cases c : more = true ∧ (tl.foldl addL (qL (yq Y) t)).length < 200
    · rw [if_pos c]; right; show vI (st2 (ys Y) 254 t _) 226 t ≠ 0; rw [vI_ne (by omega)]; exact hg
    · rw [if_neg c]
      by_cases d : tl.foldl addL (qL (yq Y) t) = [] ∨ yv Y 247 t = 1
      · rw [if_pos d]
        left
        exact ⟨(wOK_tl (N := N) (own := own) (Lb := Lb)).1, (wOK_tl (N := N) (own := own) (Lb := Lb)).2.2⟩
      · rw [if_neg d]; right
        show vI (st2 (st2 (st2 (st2 (ys Y) 254 t _) 263 t 0) 264 t 0) 230 t 5) 226 t ≠ 0
        rw [vI_ne (by omega), vI_ne (by omega), vI_ne (by omega), vI_ne (by omega)]; exact hg
  have own254 : qH (yq Y) (3 * t + (qO (yq Y) t).getD (if yv Y 247 t = 1 then 0 else 1) 0) = own (yp Y t) → (qL (yq Y) t).length < 200 ∧ yv Y 254 t = ((qL (yq Y) t).length : Int) ∧ w32 (yv Y 254 t + (tl.length : Int)) = yv Y 254 t + (tl.length : Int) := fun z => by
    rw [← q4] at z
    rcases hc with c | ⟨c1, c2, c3, c4, c5⟩
    · exact absurd z c
    · obtain ⟨e1, e2, e3⟩ := c2.2 h4 z
      have := hok.1
      exact ⟨e2, e1, w32s (by omega)⟩
  have qo := qOK_tm (more := more) hq h4 hok (fun z => by
    obtain ⟨e1, e2, e3⟩ := own254 z
    have := hok.1
    rw [e3]; omega)
  by_cases c0 : yv (tmY t more tl Y) 226 t = 0
  · rcases hcl with ⟨z1, z2⟩ | z
    · exact ⟨LI_cl c0 z1, by omega, fun _ => by omega⟩
    · exact absurd c0 z
  · rcases qo with z | ⟨o1, o2, o3⟩
    · exact absurd z c0
    · have hw : yw (tmY t more tl Y) = yw Y := hw.resolve_right c0
      have v9 : yv (tmY t more tl Y) 269 (yv Y 229 t).toNat = 0 := by
        unfold tmY at c0 ⊢
        by_cases c : more = true ∧ (tl.foldl addL (qL (yq Y) t)).length < 200
        · rw [if_pos c]; exact (vI_ne (by omega)).trans h9
        · rw [if_neg c] at c0 ⊢
          by_cases d : tl.foldl addL (qL (yq Y) t) = [] ∨ yv Y 247 t = 1
          · rw [if_pos d] at c0; exact absurd clS_0 c0
          · rw [if_neg d]
            show vI (st2 (st2 (st2 (st2 (ys Y) 254 t _) 263 t 0) 264 t 0) 230 t 5) 269 _ = 0
            rw [vI_ne (by omega), vI_ne (by omega), vI_ne (by omega), vI_ne (by omega)]; exact h9
      obtain ⟨w1, w2⟩ := wOK_qmk (Lb := Lb) hh ff o2 hk ht v9 o1 (fun q y hy => by rw [hw] at hy; exact hn q y hy)
      have k1 := ff.2.2.2.1.1.trans hk
      have g1 := o2.trans hh.1
      have vp := FT_p ff
      rcases o3 with ⟨r0, r1, r2, r3, r4, r5, r6, r7, r8, r9, r10⟩ | ⟨r0, r1, r2⟩
      · have eQ : qQ (tmY t more tl Y) t = qQ Y t := qQ_of (fun a z => r10 a t (by omega)) (by rw [r9])
        have m4' : mu own (tmY t more tl Y) t = 1000 + (if qH (yq Y) (3 * t + (qO (yq Y) t).getD (if yv Y 247 t = 1 then 0 else 1) 0) = own (yp Y t) then (230 - w32 (yv Y 254 t + (tl.length : Int))).toNat else 0) := by rw [mu_q k1 g1, r0, if_neg (by decide), if_neg (by decide), if_pos rfl, r8, r9, r10 247 _ (by decide), vp, r4]
        rcases hc with c | ⟨c1, c2, c3, c4, c5⟩
        · rw [q4] at c
          rw [m4', m4, if_neg c, if_neg c]
          refine ⟨⟨w1, fun _ => ⟨w2, fun z => by omega, fun _ z => absurd z ?_⟩⟩, Nat.le_refl _, fun z => absurd (q4 ▸ z) c⟩
          rw [eQ, vp, r8, q4]; exact c
        · have c1' := c1
          rw [q4] at c1'
          obtain ⟨e1, e2, e3⟩ := own254 c1'
          obtain ⟨p1, p2, p3⟩ := c2.2 h4 c1
          have e5 : (yv Y 254 t).toNat = (qL (yq Y) t).length := by omega
          rw [e5] at c4 c5
          obtain ⟨a1, a2, a3⟩ := page_add (key := qK (yq Y) (qQ Y t)) c3 (hs := (hsQ Y t).toNat) (bs := qB (yq Y) t) p2 p3 (by rw [c5] at r2; exact r2) (by rw [r1] at c4; exact c4.symm)
          have a1 : (pageS (qL (yq Y) t).length (mtQ Y t)).foldl addL (qL (yq Y) t) = ((mtQ Y t).take ((qL (yq Y) t).length + 30)).map itm := a1
          have a2 : (pageS (qL (yq Y) t).length (mtQ Y t)).length = 30 := a2
          have a3 : ((pageS (qL (yq Y) t).length (mtQ Y t)).foldl addL (qL (yq Y) t)).length = (qL (yq Y) t).length + 30 := a3
          rw [← c5] at a1 a2 a3
          rw [m4', m4, if_pos c1', if_pos c1', e3]
          refine ⟨⟨w1, fun _ => ⟨w2, fun z => by omega, fun _ _ => ⟨?_, ?_, ?_⟩⟩⟩, by omega, fun _ => by omega⟩
          · rw [r4, r3, a3, e3]; omega
          · rw [r3]; exact r2
          · have eM : mtQ (tmY t more tl Y) t = mtQ Y t := by
              unfold mtQ hsQ
              rw [eQ, vp, r5, r6, r7, r10 247 _ (by decide), r10 256 _ (by decide)]
            rw [eM, r3, a3]; exact a1
      · refine ⟨⟨w1, fun _ => ⟨w2, fun z => by omega, fun z => by omega⟩⟩, ?_, fun _ => ?_⟩
        · rw [mu_q k1 g1, r0, if_neg (by decide), if_neg (by decide), if_neg (by decide), r1, if_pos rfl, r2]; omega
        · rw [mu_q k1 g1, r0, if_neg (by decide), if_neg (by decide), if_neg (by decide), r1, if_pos rfl, r2]; omega
end WQON
