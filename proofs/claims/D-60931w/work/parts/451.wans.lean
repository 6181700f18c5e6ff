/-! what a work makes of an answer, or of none -/
def ndL (l : List Int) (o : Nat) : List (Ky × Int) := (List.range (l.getD o 0).toNat).map (fun i => (kyP l (o + 1 + 21 * i), l.getD (o + 21 + 21 * i) 0))
def lkA1 (key : Ky) (l : List Int) (k : LkA) : LkA :=
  (k.1, k.2.1, (ndL l (if l.getD 0 0 = 6 then 27 else 25)).foldl (fun E x => addE k.1 E (x.1, x.2, 0, 0)) (stE key 2 (if l.getD 0 0 = 6 then l.getD 25 0 * 256 + l.getD 26 0 else 0) k.2.2.1), w32 (k.2.2.2 - 1))
def flE (key : Ky) (E : List Ent) : List Ent := E.map (fun x => if eKey x = key then (eKey x, eAdr x, 3, eCnt x) else x)
def ans0 (t : Nat) (key : Ky) (l : List Int) (Y : Ys) : Ys :=
  if yv Y 230 t = 1 then (yw Y, fup (yl Y) t (lkA1 key l (yl Y t)), ys Y, yq Y)
  else if yv Y 230 t = 2 then (yw Y, yl Y, stdS t true (st2 (ys Y) 245 t (yv Y 245 t - 1)), yq Y)
  else if yv Y 230 t = 3 then tbY t (l.getD 27 0) (rdF l 27) Y
  else if yv Y 230 t = 4 then tmY t (decide (l.getD 25 0 = 1)) (rdI l 27 (l.getD 26 0).toNat) Y
  else tcY t (rdI l 26 (l.getD 25 0).toNat) Y
def fai0 (t : Nat) (key : Ky) (Y : Ys) : Ys :=
  if yv Y 230 t = 1 then (yw Y, fup (yl Y) t ((yl Y t).1, (yl Y t).2.1, flE key (yl Y t).2.2.1, w32 ((yl Y t).2.2.2 - 1)), ys Y, yq Y)
  else if yv Y 230 t = 2 then (yw Y, yl Y, stdS t false (st2 (ys Y) 245 t (yv Y 245 t - 1)), yq Y)
  else clY t 2 Y
/-- a request of a work is gone -/
def rmR (t : Nat) (Y0 Y : Ys) : Prop := yl Y = yl Y0 ∧ ys Y = ys Y0 ∧ yq Y = yq Y0 ∧ cnA (yp Y0 t) t (yw Y) + 1 = cnA (yp Y0 t) t (yw Y0) ∧ ∀ q y, y ∈ wQ (yw Y) q → qWrk y = some t → q = yp Y0 t ∧ qTyp y = tyS Y0 t
section WANS
variable {m al N p q t : Nat} {own : Nat → Ky} {sd : Nat → Int} {tm : Int} {Y Y0 : Ys} {Lb : Nat → List Trm} {key : Ky} {l : List Int} {ev : Nat → Nat}
theorem mu_2 (h : yv Y 227 t = 2) : mu own Y t = if yv Y 226 t = 0 then 0 else 2 * (64 - yv Y 244 t).toNat + (if yv Y 230 t = 1 then 1 else 0) := by
  unfold mu
  rw [h, if_neg (show ¬ ((2 : Int) = 0 ∨ (2 : Int) = 4) from by decide), if_neg (show ¬ (2 : Int) = 1 from by decide), if_pos (show (2 : Int) = 2 from rfl)]
theorem rm_cn0 (hr : rmR t Y0 Y) (hc : cnA (yp Y0 t) t (yw Y0) ≤ 1) : ∀ q y, y ∈ wQ (yw Y) q → qWrk y ≠ some t := fun q y hy hw => by
  obtain ⟨_, _, _, r4, r5⟩ := hr
  obtain ⟨e1, _⟩ := r5 q y hy hw
  have : cnA (yp Y0 t) t (yw Y) = 0 := by omega
  unfold cnA at this
  rw [List.countP_eq_zero] at this
  exact this y (by rw [← e1]; exact hy) (by simpa using hw)
/-- words and lookups of a work stay, its lookup aside -/
theorem wOK_s1 {k : LkA} (hr : rmR t Y0 Y) (h : wOK N own Lb Y0 t) (hg : yv Y0 226 t ≠ 0) (h1 : yv Y0 230 t = 1) (hk : k.2.1 = (yl Y0 t).2.1) : LI N own Lb (yw Y, fup (yl Y) t k, ys Y, yq Y) t ∧ mu own (yw Y, fup (yl Y) t k, ys Y, yq Y) t = mu own Y0 t := by
  obtain ⟨r1, r2, r3, r4, r5⟩ := hr
  obtain ⟨hh, hk0⟩ := wOK_hd h hg
  rw [r2, r3]
  have e1 : ∀ a i, yv ((yw Y, fup (yl Y) t k, ys Y0, yq Y0) : Ys) a i = yv Y0 a i := fun _ _ => rfl
  refine ⟨LI_1 (wOK_mk hh (fun q y hy hw => ?_) ?_) (fun _ => Or.inl h1), rfl⟩
  · obtain ⟨a1, a2⟩ := r5 q y hy hw
    refine ⟨a1, ?_⟩
    rw [a2]
    unfold tyS
    rw [if_pos h1, if_pos (show yv ((yw Y, fup (yl Y) t k, ys Y0, yq Y0) : Ys) 230 t = 1 from h1)]
    show _ = tyL (fup (yl Y) t k t).2.1
    rw [fup_eq, hk]
  · rcases hk0 with k | k | ⟨k1, k2, k3, k4, k5, k6, k7⟩ | ⟨k1, k2, k3, k4, k5⟩
    · exact Or.inl k
    · exact Or.inr (Or.inl k)
    · exact Or.inr (Or.inr (Or.inl ⟨k1, k2, k3, k4, k5, k6, fun z => by rw [show yv ((yw Y, fup (yl Y) t k, ys Y0, yq Y0) : Ys) 230 t = 1 from h1] at z; exact absurd z (by decide)⟩))
    · refine Or.inr (Or.inr (Or.inr ⟨k1, k2, k3, k4, Or.inl ?_⟩))
      rcases k5 with k5 | ⟨k5, _⟩
      · exact k5
      · have := k5.2.1; omega
theorem wOK_s2 {d : Bool} (hr : rmR t Y0 Y) (h : wOK N own Lb Y0 t) (hg : yv Y0 226 t ≠ 0) (h2 : yv Y0 230 t = 2) (hb : cnA (yp Y0 t) t (yw Y0) ≤ 1000) : LI N own Lb (yw Y, yl Y, stdS t d (st2 (ys Y) 245 t (yv Y 245 t - 1)), yq Y) t ∧ mu own (yw Y, yl Y, stdS t d (st2 (ys Y) 245 t (yv Y 245 t - 1)), yq Y) t = mu own Y0 t := by
  obtain ⟨r1, r2, r3, r4, r5⟩ := hr
  obtain ⟨hh, hk0⟩ := wOK_hd h hg
  obtain ⟨s, hs⟩ : ∃ s, s = stdS t d (st2 (ys Y) 245 t (yv Y 245 t - 1)) := ⟨_, rfl⟩
  have v : ∀ a i, a ≠ 245 → a ≠ 246 → a ≠ 269 → vI s a i = yv Y0 a i := fun a i z1 z2 z3 => by rw [hs, stdS_ne z2 z3, vI_ne (by omega), r2]
  have v5 : vI s 245 t = w32 (yv Y0 245 t - 1) := by rw [hs, stdS_ne (by decide) (by decide), vI_eq rfl, show yv Y 245 t = yv Y0 245 t from by show vI (ys Y) 245 t = _; rw [r2]]
  have v6 : (yv Y0 246 t = 0 ∨ yv Y0 246 t = 1) → (vI s 246 t = 0 ∨ vI s 246 t = 1) := fun z => by
    rw [hs]
    exact stdS_6 (by rw [vI_ne (by omega), r2]; exact z)
  rw [← hs]
  obtain ⟨Y1, hY⟩ : ∃ Y1 : Ys, Y1 = (yw Y, yl Y, s, yq Y) := ⟨_, rfl⟩
  have u : ∀ a i, a ≠ 245 → a ≠ 246 → a ≠ 269 → yv Y1 a i = yv Y0 a i := fun a i z1 z2 z3 => by rw [hY]; exact v a i z1 z2 z3
  have up : yp Y1 t = yp Y0 t := by unfold yp; rw [show vI (ys Y1) 228 t = vI (ys Y0) 228 t from u 228 t (by decide) (by decide) (by decide)]
  have hh1 : hdW N Y1 t := by
    unfold hdW goW at *
    rw [u _ _ (by decide) (by decide) (by decide), u _ _ (by decide) (by decide) (by decide), u _ _ (by decide) (by decide) (by decide), up]
    exact hh
  have h21 : yv Y1 230 t = 2 := by rw [u _ _ (by decide) (by decide) (by decide)]; exact h2
  rw [← hY]
  rcases hk0 with k | k | ⟨k1, k2, k3, k4, k5, k6, k7⟩ | ⟨k1, k2, k3, k4, k5⟩
  · omega
  · omega
  · refine ⟨LI_1 (wOK_mk hh1 (fun q y hy hw => ?_) (Or.inr (Or.inr (Or.inl ⟨?_, Or.inr h21, ?_, ?_, ?_, ?_, fun _ => ?_⟩)))) (fun _ => Or.inr h21), ?_⟩
    · rw [hY] at hy
      obtain ⟨a1, a2⟩ := r5 q y hy hw
      rw [up]
      refine ⟨a1, ?_⟩
      rw [a2]
      unfold tyS
      rw [h2, h21]
      rfl
    · rw [u _ _ (by decide) (by decide) (by decide)]; exact k1
    · rw [u _ _ (by decide) (by decide) (by decide)]; exact k3
    · rw [u _ _ (by decide) (by decide) (by decide)]; exact k4
    · rw [u _ _ (by decide) (by decide) (by decide), u _ _ (by decide) (by decide) (by decide), up]; exact k5
    · rw [hY]; exact v6 k6
    · have k7 := k7 h2
      rw [up]
      have e5 : yv Y1 245 t = w32 (yv Y0 245 t - 1) := by rw [hY]; exact v5
      have ew : yw Y1 = yw Y := by rw [hY]
      rw [e5, ew, ← k7, w32s (by omega)]
      omega
    · rw [mu_2 (by rw [u _ _ (by decide) (by decide) (by decide)]; exact k1), mu_2 k1, u 226 _ (by decide) (by decide) (by decide), u 244 _ (by decide) (by decide) (by decide), h21, h2]
  · rcases k5 with k5 | ⟨k5, _⟩
    · omega
    · have := k5.2.1; omega
theorem wOK_rm (hr : rmR t Y0 Y) (h : wE N own Lb Y0 t) (hg : yv Y0 226 t ≠ 0) (h1 : yv Y0 230 t ≠ 1) (h2 : yv Y0 230 t ≠ 2) : wOK N own Lb Y t ∧ (∀ q y, y ∈ wQ (yw Y) q → qWrk y ≠ some t) := by
  obtain ⟨hh, k1, k2, k3, k4, k5⟩ := wOK_q h.1 hg h1 h2
  have none := rm_cn0 hr k5
  obtain ⟨r1, r2, r3, r4, r5⟩ := hr
  have e : ∀ a i, yv Y a i = yv Y0 a i := fun a i => by show vI (ys Y) a i = _; rw [r2]
  have ep : yp Y t = yp Y0 t := by unfold yp; rw [r2]
  have cn : cnA (yp Y t) t (yw Y) ≤ 1 := by rw [ep]; omega
  refine ⟨wOK_mk ?_ (fun q y hy hw => absurd hw (none q y hy)) (Or.inr (Or.inr (Or.inr ⟨?_, k2, ?_, ?_, Or.inr ⟨?_, cn⟩⟩))), none⟩
  · unfold hdW goW at *
    rw [e, e, e, ep]; exact hh
  · rw [e]; exact k1
  · rw [e, e]; exact k3
  · rw [e]; exact k4.1
  · exact qOK_of k4 (fun a _ => e a t) (fun i _ => e _ _) ep (by rw [r3]) (fun _ _ => by rw [r3]) (by rw [r3]) (by rw [r3]) (by rw [r3])
theorem rdI_okM {c n : Nat} (hb : isBL l) (h : psW l.length (fun i => l.getD i 0) c 0 30 3 = true) (hn : (l.getD c 0).toNat = n) : okM (rdI l (c + 1) n) ∧ l.getD c 0 = (n : Int) ∧ n ≤ 30 ∧ c + 1 + 3 * n ≤ l.length := by
  obtain ⟨n', e1, e2, e3, e4, e5⟩ := ps_shape hb h
  have en : n' = n := by omega
  rw [en] at e1 e3 e4 e5
  refine ⟨⟨by unfold rdI; rw [List.length_map, List.length_range]; omega, fun z hz => ?_⟩, e1, by omega, by omega⟩
  unfold rdI at hz
  obtain ⟨i, hi, rfl⟩ := List.mem_map.mp hz
  have hi := List.mem_range.mp hi
  obtain ⟨a1, a2, a3⟩ := e5 i hi
  have a3 := a3 (by decide)
  have b1 := isBL_get hb (c + 1 + 3 * i)
  have b2 := isBL_get hb (c + 1 + 3 * i + 1)
  exact ⟨⟨b1.1, a1⟩, ⟨b2.1, a2⟩, a3⟩
theorem rdF_okB {c n : Nat} (hb : isBL l) (hn : (l.getD (c + 1) 0 * 256 + l.getD (c + 2) 0).toNat = n) (h2 : n ≤ 290) (hl : c + 3 + n ≤ l.length) : okB (rdF l c) := by
  refine ⟨by rw [(rdF_get (i := 0) hn hl).1]; exact h2, fun b hb2 => ?_⟩
  unfold rdF at hb2
  exact hb b (List.mem_of_mem_drop (List.mem_of_mem_take hb2))
/-- an answer came -/
theorem LI_ans (hr : rmR t Y0 Y) (h : wE N own Lb Y0 t) (hg : yv Y0 226 t ≠ 0) (hb : isBL l) (hwl : wellL l = true) (hty : l.getD 0 0 = tyS Y0 t + 1) (hQ : cnA (yp Y0 t) t (yw Y0) ≤ 1000) : LI N own Lb (ans0 t key l Y) t ∧ mu own (ans0 t key l Y) t ≤ mu own Y0 t := by
  have e : ∀ a i, yv Y a i = yv Y0 a i := fun a i => by show vI (ys Y) a i = _; rw [hr.2.1]
  have ep : yp Y t = yp Y0 t := by unfold yp; rw [hr.2.1]
  unfold ans0
  rw [e 230]
  by_cases c1 : yv Y0 230 t = 1
  · rw [if_pos c1]
    obtain ⟨a1, a2⟩ := wOK_s1 (k := lkA1 key l (yl Y t)) hr h.1 hg c1 (by show (yl Y t).2.1 = _; rw [hr.1])
    exact ⟨a1, by rw [a2]; exact Nat.le_refl _⟩
  · rw [if_neg c1]
    by_cases c2 : yv Y0 230 t = 2
    · rw [if_pos c2]
      obtain ⟨a1, a2⟩ := wOK_s2 (d := true) hr h.1 hg c2 hQ
      exact ⟨a1, by rw [a2]; exact Nat.le_refl _⟩
    · rw [if_neg c2]
      obtain ⟨w1, w2⟩ := wOK_rm hr h hg c1 c2
      have hg1 : yv Y 226 t ≠ 0 := by rw [e]; exact hg
      obtain ⟨hh, k1, k2, k3, k4, k5⟩ := wOK_q h.1 hg c1 c2
      have mm : mu own Y t = mu own Y0 t := by
        unfold mu
        rw [e, e, e, e, e, e, e, e, e, e, hr.2.2.1, ep]
      have rm := h.2.1 hg (by have := k4.2.1; omega)
      have eq : qQ Y t = qQ Y0 t := qQ_of (fun a _ => e a t) (by rw [hr.2.2.1])
      by_cases c3 : yv Y0 230 t = 3
      · rw [if_pos c3]
        have t9 : l.getD 0 0 = 10 := by rw [hty]; unfold tyS; rw [c3]; rfl
        obtain ⟨n, b1, b2, b3, b4⟩ := wl_10 hb hwl t9
        have pg : pgQ own Y t := ⟨fun _ => by rw [e, hr.2.2.1]; exact (h.2.2 hg).1 c3, fun z => by rw [e] at z; omega⟩
        obtain ⟨a1, a2⟩ := LI_tb (hs := l.getD 27 0) (bs := rdF l 27) w1 hg1 (by rw [e]; exact c3) pg w2 b4 (rdF_okB hb b1 b2 (by omega))
        exact ⟨a1, by omega⟩
      · rw [if_neg c3]
        by_cases c4 : yv Y0 230 t = 4
        · rw [if_pos c4]
          have t9 : l.getD 0 0 = 12 := by rw [hty]; unfold tyS; rw [c4]; rfl
          obtain ⟨_, b1⟩ := wl_12 hb hwl t9
          obtain ⟨b2, b3, b4, b5⟩ := rdI_okM hb b1 rfl
          obtain ⟨a1, a2, a3⟩ := LI_tm (tl := rdI l 27 (l.getD 26 0).toNat) (more := decide (l.getD 25 0 = 1)) w1 hg1 (by rw [e]; exact c4) w2 b2 (Or.inl (by rw [eq, hr.2.2.1, ep]; exact rm))
          exact ⟨a1, by omega⟩
        · rw [if_neg c4]
          have c5 : yv Y0 230 t = 5 := by have := k4.2.1; omega
          have t9 : l.getD 0 0 = 14 := by rw [hty]; unfold tyS; rw [c5]; rfl
          obtain ⟨b2, b3, b4, b5⟩ := rdI_okM hb (wl_14 hb hwl t9) rfl
          obtain ⟨a1, a2⟩ := LI_tc (tl := rdI l 26 (l.getD 25 0).toNat) w1 hg1 (by rw [e]; exact c5) w2 b2
          exact ⟨a1, by omega⟩
/-- no answer came -/
theorem LI_fai (hr : rmR t Y0 Y) (h : wE N own Lb Y0 t) (hg : yv Y0 226 t ≠ 0) (hQ : cnA (yp Y0 t) t (yw Y0) ≤ 1000) : LI N own Lb (fai0 t key Y) t ∧ mu own (fai0 t key Y) t ≤ mu own Y0 t := by
  have e : ∀ a i, yv Y a i = yv Y0 a i := fun a i => by show vI (ys Y) a i = _; rw [hr.2.1]
  unfold fai0
  rw [e 230]
  by_cases c1 : yv Y0 230 t = 1
  · rw [if_pos c1]
    obtain ⟨a1, a2⟩ := wOK_s1 (k := ((yl Y t).1, (yl Y t).2.1, flE key (yl Y t).2.2.1, w32 ((yl Y t).2.2.2 - 1))) hr h.1 hg c1 (by show (yl Y t).2.1 = _; rw [hr.1])
    exact ⟨a1, by rw [a2]; exact Nat.le_refl _⟩
  · rw [if_neg c1]
    by_cases c2 : yv Y0 230 t = 2
    · rw [if_pos c2]
      obtain ⟨a1, a2⟩ := wOK_s2 (d := false) hr h.1 hg c2 hQ
      exact ⟨a1, by rw [a2]; exact Nat.le_refl _⟩
    · rw [if_neg c2]
      obtain ⟨a1, a2, a3⟩ := wOK_cl (N := N) (own := own) (Lb := Lb) (t := t) (how := 2) (Y := Y)
      exact ⟨LI_cl a3 a1, by rw [a2]; omega⟩
end WANS
