theorem mkF_okB {h : Nat} {ps : List Post} (hn : ps.length ≤ 200) (hh : h ≤ 8) : okB (mkF h ps) := by
  have := (mkFk_ok hn hh ps.length (Nat.le_refl _)).1
  unfold mkFk at this
  rw [List.take_length] at this
  exact this
section WQON2
variable {m al N p q t t' : Nat} {own : Nat → Ky} {sd : Nat → Int} {tm ad ty how r : Int} {w : Wd} {Y Y1 : Ys} {Lb : Nat → List Trm} {key : Ky} {bd : List Int} {vals : Bool} {ev : Nat → Nat} {tl : List It} {more : Bool}
/-- a CHECK comes -/
theorem LI_tc (h : wOK N own Lb Y t) (hg : yv Y 226 t ≠ 0) (h5 : yv Y 230 t = 5) (hn : ∀ q y, y ∈ wQ (yw Y) q → qWrk y ≠ some t) (hok : okM tl) : LI N own Lb (tcY t tl Y) t ∧ mu own (tcY t tl Y) t < mu own Y t := by
  obtain ⟨hh, hk, ht, h9, hq, _⟩ := wOK_q h hg (by omega) (by omega)
  have hr : 0 ≤ yv Y 229 t := hh.2.2.1 ht
  have ff : FT t Y (tcY t tl Y) := FT_tc hr
  have k10 := hq.2.2.2.2.2.2.2.2.2.1 h5
  have l200 := hq.2.2.2.2.2.2.2.2.1.1
  have m5 : mu own Y t = (if yv Y 263 t = 0 then 300 else 0) + (299 - yv Y 264 t).toNat := by rw [mu_q hk hh.1, h5, if_neg (by decide), if_neg (by decide), if_neg (by decide)]
  have hcl : (wOK N own Lb (tcY t tl Y) t ∧ mu own (tcY t tl Y) t = 0 ∧ yv (tcY t tl Y) 226 t = 0) ∨ (yv (tcY t tl Y) 226 t ≠ 0 ∧ yw (tcY t tl Y) = yw Y ∧ yv (tcY t tl Y) 269 (yv Y 229 t).toNat = 0) := by
    unfold tcY
    by_cases c : (yv Y 264 t).toNat + 30 < (qL (yq Y) t).length
    · rw [if_pos c]; right
      exact ⟨by show vI (st2 (ys Y) 264 t _) 226 t ≠ 0; rw [vI_ne (by omega)]; exact hg, rfl, (vI_ne (by omega)).trans h9⟩
    · rw [if_neg c]
      by_cases d : sftL (tcL (yv Y 264 t).toNat tl (qL (yq Y) t)) (tcF (yv Y 264 t).toNat tl (qL (yq Y) t) (qF (yq Y) t)) = [] ∨ yv Y 247 t ≤ (if yv Y 263 t = 0 then 2 else 3)
      · rw [if_pos d]; left
        exact ⟨(wOK_tl (N := N) (own := own) (Lb := Lb)).1, (wOK_tl (N := N) (own := own) (Lb := Lb)).2.2, clS_0⟩
      · rw [if_neg d]; right
        refine ⟨?_, rfl, ?_⟩
        · show vI (st2 (st2 (ys Y) 263 t _) 264 t 0) 226 t ≠ 0
          rw [vI_ne (by omega), vI_ne (by omega)]; exact hg
        · show vI (st2 (st2 (ys Y) 263 t _) 264 t 0) 269 _ = 0
          rw [vI_ne (by omega), vI_ne (by omega)]; exact h9
  rcases hcl with ⟨z1, z2, z3⟩ | ⟨z1, z2, z3⟩
  · exact ⟨LI_cl z3 z1, by rw [z2, m5]; omega⟩
  · rcases qOK_tc hq h5 hok with o | ⟨o1, o2, o3, o4⟩
    · exact absurd o z1
    · obtain ⟨w1, w2⟩ := wOK_qmk (Lb := Lb) hh ff o2 hk ht z3 o1 (fun q y hy => by rw [z2] at hy; exact hn q y hy)
      refine ⟨⟨w1, fun _ => ⟨w2, fun z => by omega, fun z => by omega⟩⟩, ?_⟩
      rw [mu_q (ff.2.2.2.1.1.trans hk) (o2.trans hh.1), o3, if_neg (by decide), if_neg (by decide), if_neg (by decide), m5]
      rcases o4 with ⟨e1, e2, e3⟩ | ⟨e1, e2, e3, e4⟩
      · rw [e1, e2]; omega
      · rw [e1, e2, e3, if_pos rfl, if_neg (by decide)]; omega
/-- BITS come -/
theorem LI_tb {hs : Int} {bs : List Int} (h : wOK N own Lb Y t) (hg : yv Y 226 t ≠ 0) (h3 : yv Y 230 t = 3) (hp : pgQ own Y t) (hn : ∀ q y, y ∈ wQ (yw Y) q → qWrk y ≠ some t) (hh' : 1 ≤ hs ∧ hs ≤ 8) (hb : okB bs) : LI N own Lb (tbY t hs bs Y) t ∧ mu own (tbY t hs bs Y) t < mu own Y t := by
  obtain ⟨hh, hk, ht, h9, hq, _⟩ := wOK_q h hg (by omega) (by omega)
  have ff : FT t Y (tbY t hs bs Y) := FT_tb
  have v : ∀ a i, a ≠ 256 → a ≠ 230 → yv (tbY t hs bs Y) a i = yv Y a i := fun a i z1 z2 => by show vI (st2 (st2 (ys Y) 256 t hs) 230 t 4) a i = _; rw [vI_ne (by omega), vI_ne (by omega)]
  have v0 : yv (tbY t hs bs Y) 230 t = 4 := by show vI (st2 (st2 (ys Y) 256 t hs) 230 t 4) 230 t = _; rw [vI_eq rfl]; rfl
  have o := qOK_tb hq h3 hh' hb
  obtain ⟨w1, w2⟩ := wOK_qmk (Lb := Lb) hh ff (v _ _ (by omega) (by omega)) hk ht (by rw [v _ _ (by omega) (by omega)]; exact h9) o hn
  obtain ⟨p1, p2⟩ := hp.1 h3
  refine ⟨⟨w1, fun _ => ⟨w2, fun z => by omega, fun _ _ => ?_⟩⟩, ?_⟩
  · rw [v _ _ (by omega) (by omega)]
    have e : qL (yq (tbY t hs bs Y)) t = [] := p2
    rw [e]
    exact ⟨p1, by show (0 : Nat) < 200; omega, rfl⟩
  · have := mu_q4 (ff.2.2.2.1.1.trans hk) ((v 226 t (by omega) (by omega)).trans hh.1) o v0
    rw [mu_q hk hh.1, h3, if_neg (by decide), if_pos rfl]
    omega
theorem wOK_dt (h : wOK N own Lb Y t) (hg : yv Y 226 t ≠ 0) (h1 : yv Y 230 t ≠ 1) (h2 : yv Y 230 t ≠ 2) : wOK N own Lb (setW Y (dtW t (yw Y))) t := by
  obtain ⟨hh, hk, ht, h9, hq, _⟩ := wOK_q h hg h1 h2
  exact (wOK_qmk hh (FT_w FTw_dt) rfl hk ht h9 hq (fun q y hy => dt_none hy)).1
/-- a query goes on -/
theorem LI_qon (hs : sdY m N own tm Lb ev Y) (ht : t < 44) (h : LI N own Lb Y t) (hg : yv Y 226 t ≠ 0) (h1 : yv Y 230 t ≠ 1) (h2 : yv Y 230 t ≠ 2) : (LI N own Lb (qonY N own sd tm t Y).2 t ∧ (qonY N own sd tm t Y).1 = true ∧ mu own (qonY N own sd tm t Y).2 t < mu own Y t) ∨ (wOK N own Lb (qonY N own sd tm t Y).2 t ∧ (qonY N own sd tm t Y).1 = false ∧ mu own (qonY N own sd tm t Y).2 t ≤ mu own Y t ∧ rmt own (qonY N own sd tm t Y).2 t ∧ (yv (qonY N own sd tm t Y).2 226 t ≠ 0 → pgQ own (qonY N own sd tm t Y).2 t)) := by
  obtain ⟨hw, hl⟩ := h
  obtain ⟨hz, hp⟩ := hl hg
  obtain ⟨hh, hk, ht2, h9, hq, _⟩ := wOK_q hw hg h1 h2
  have wd := wOK_dt hw hg h1 h2
  have pN : yp Y t < N := by have := hh.2.1.1; show (yv Y 228 t).toNat < N; omega
  have p32 : yp Y t < 32 := by have := hs.1.2.2.1; omega
  obtain ⟨_, hst, _⟩ := hs.2.2.2.1 (yp Y t) p32
  have hn : ∀ q y, y ∈ wQ (yw (setW Y (dtW t (yw Y)))) q → qWrk y ≠ some t := fun q y hy => dt_none hy
  have s9 := hs.1.1.2.2.2.2.2.2.2.2.2.1
  have ask : ∀ ty bd, ty = tyS Y t → qH (yq Y) (qQ Y t) ≠ own (yp Y t) → wOK N own Lb (askQ N own sd tm t ty bd Y) t ∧ (false : Bool) = false ∧ mu own (askQ N own sd tm t ty bd Y) t ≤ mu own Y t ∧ rmt own (askQ N own sd tm t ty bd Y) t ∧ (yv (askQ N own sd tm t ty bd Y) 226 t ≠ 0 → pgQ own (askQ N own sd tm t ty bd Y) t) := fun ty bd z1 z2 => by
    obtain ⟨a1, a2, a3, a4⟩ := wOK_aq (sd := sd) (tm := tm) (bd := bd) hw hg h1 h2 z1 z2
    exact ⟨a1, rfl, a3, a2, fun z => a4 z hp⟩
  unfold qonY
  by_cases c3 : yv Y 230 t = 3
  · rw [if_pos c3]
    by_cases o : qH (yq Y) (qQ Y t) = own (yp Y t)
    · rw [if_pos o]
      left
      obtain ⟨a1, a2⟩ := LI_tb (hs := wst (yw Y) 9) (bs := mkF (wst (yw Y) 9).toNat (choS (qK (yq Y) (qQ Y t)) (wS (yw Y) (yp Y t)))) wd hg c3 hp hn s9 (mkF_okB (Nat.le_trans (List.length_filter_le _ _) hst.1) (by omega))
      exact ⟨a1, rfl, a2⟩
    · rw [if_neg o]; right; exact ask _ _ (by unfold tyS; rw [c3]; rfl) o
  · rw [if_neg c3]
    by_cases c4 : yv Y 230 t = 4
    · rw [if_pos c4]
      by_cases o : qH (yq Y) (qQ Y t) = own (yp Y t)
      · rw [if_pos o]
        left
        obtain ⟨a1, a2, a3⟩ := LI_tm (more := moreS (yv Y 254 t).toNat (mtQ Y t)) (tl := pageS (yv Y 254 t).toNat (mtQ Y t)) wd hg c4 hn (page_okM hst) (Or.inr ⟨o, hp, hst, rfl, rfl⟩)
        exact ⟨a1, rfl, a3 o⟩
      · rw [if_neg o]; right; exact ask _ _ (by unfold tyS; rw [c4]; rfl) o
    · rw [if_neg c4]
      have c5 : yv Y 230 t = 5 := by have := hq.2.1; omega
      by_cases o : qH (yq Y) (qQ Y t) = own (yp Y t)
      · rw [if_pos o]
        left
        obtain ⟨a1, a2⟩ := LI_tc (tl := chkS (qK (yq Y) (qQ Y t)) ((chQ Y t).map od) (wS (yw Y) (yp Y t))) wd hg c5 hn (chk_okM hst (by rw [List.length_map]; unfold chQ; rw [List.length_take]; omega))
        exact ⟨a1, rfl, a2⟩
      · rw [if_neg o]; right; exact ask _ _ (by unfold tyS; rw [c5]; rfl) o
/-- the next term -/
theorem LI_nxt (hs : sdY m N own tm Lb ev Y) (ht : t < 44) (h : wOK N own Lb Y t) (hg : yv Y 226 t ≠ 0) (h2 : yv Y 230 t = 2) : LI N own Lb (nxtY m own Lb t Y) t ∧ mu own (nxtY m own Lb t Y) t < mu own Y t := by
  obtain ⟨hh, hk⟩ := wOK_hd h hg
  have pN : yp Y t < N := by have := hh.2.1.1; show (yv Y 228 t).toNat < N; omega
  have p32 : yp Y t < 32 := by have := hs.1.2.2.1; omega
  obtain ⟨_, _, hlb⟩ := hs.2.2.2.1 (yp Y t) p32
  rcases hk with hk | hk | ⟨k1, k2, k3, k4, k5, k6, k7⟩ | ⟨k1, k2, k3, k4, k5⟩
  · omega
  · omega
  · have pl : (pbT (yv Y 243 t).toNat (Lb (yp Y t))).length ≤ 64 := Nat.le_trans (List.length_filter_le _ _) hlb.1
    obtain ⟨b1, b2, b3, b4⟩ := wOK_nxt (N := N) (own := own) (Lb := Lb) (m := m) hh.1 hh.2.1 hh.2.2.1 hh.2.2.2 k1 k3 (by omega) k6 hlb.1
    refine ⟨LI_1 b1 (fun z => ?_), ?_⟩
    · have := (wOK_hd b1 z).2
      have e : yv (nxtY m own Lb t Y) 227 t = 2 := FT_nxt.2.2.2.1.1.trans k1
      unfold kOK at this
      omega
    · have mm : mu own Y t = 2 * (64 - yv Y 244 t).toNat := by
        unfold mu
        rw [if_neg hg, h2, k1, if_neg (by decide), if_neg (by decide), if_pos rfl, if_neg (by decide)]
        rfl
      have := b4 (by omega)
      omega
  · rcases k5 with k5 | ⟨k5, _⟩
    · omega
    · have := k5.2.1; omega
end WQON2
