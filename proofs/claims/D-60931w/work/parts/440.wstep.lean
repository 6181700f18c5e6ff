/-! steps keep what is so of a work -/
/-- nothing waits where a step takes place -/
def cz0 (Y : Ys) (t : Nat) : Prop := 3 ≤ yv Y 230 t → cnA (yp Y t) t (yw Y) = 0
/-- what is left to be done -/
def mu (own : Nat → Ky) (Y : Ys) (t : Nat) : Nat :=
  if yv Y 226 t = 0 then 0 else if yv Y 227 t = 0 ∨ yv Y 227 t = 4 then (if yv Y 242 t < 0 then 400 else (160 - yv Y 242 t).toNat)
  else if yv Y 227 t = 1 then 1 else if yv Y 227 t = 2 then 2 * (64 - yv Y 244 t).toNat + (if yv Y 230 t = 1 then 1 else 0)
  else if yv Y 230 t = 1 then 1400 + (3 - yv Y 248 t).toNat else if yv Y 230 t = 3 then 1300 else if yv Y 230 t = 4 then 1000 + (if qH (yq Y) (3 * t + (qO (yq Y) t).getD (if yv Y 247 t = 1 then 0 else 1) 0) = own (yp Y t) then (230 - yv Y 254 t).toNat else 0)
  else (if yv Y 263 t = 0 then 300 else 0) + (299 - yv Y 264 t).toNat
section WSTEP
variable {m al N p q t t' : Nat} {own : Nat → Ky} {sd : Nat → Int} {tm ad ty how : Int} {w : Wd} {Y : Ys} {Lb : Nat → List Trm} {key : Ky} {bd : List Int} {vals : Bool}
theorem clS_ne {sc : VV} {a i : Nat} (h : ¬ (a = 226 ∧ i = t)) (h2 : a ≠ 267) : vI (clS t how sc) a i = vI sc a i := by
  unfold clS
  split
  · exact vI_ne h
  · rw [vI_ne (fun z => h2 z.1), vI_ne h]
theorem clS_0 {sc : VV} : vI (clS t how sc) 226 t = 0 := by
  unfold clS
  split
  · rw [vI_eq rfl]; rfl
  · rw [vI_ne (by omega), vI_eq rfl]; rfl
theorem wOK_cl : wOK N own Lb (clY t how Y) t ∧ mu own (clY t how Y) t = 0 ∧ yv (clY t how Y) 226 t = 0 := by
  have h0 : yv (clY t how Y) 226 t = 0 := clS_0
  refine ⟨⟨Or.inl h0, fun p y hy hw => absurd hw (dt_none hy), fun z => by rw [h0] at z; exact absurd z (by decide)⟩, ?_, h0⟩
  unfold mu
  rw [if_pos h0]
theorem lk_v {a i : Nat} (h : a ≠ 230) : yv (lkY m own t key vals Y) a i = yv Y a i := vI_ne (fun z => h z.1)
theorem lk_1 : yv (lkY m own t key vals Y) 230 t = 1 := by show vI (st2 (ys Y) 230 t 1) 230 t = 1; rw [vI_eq rfl]; rfl
theorem lk_p : yp (lkY m own t key vals Y) t = yp Y t := by unfold yp; rw [show vI (ys (lkY m own t key vals Y)) 228 t = vI (ys Y) 228 t from vI_ne (by omega)]
theorem goW_lk : goW N (lkY m own t key vals Y) t ↔ goW N Y t := by unfold goW; rw [lk_v (by decide), lk_v (by decide)]
theorem wOK_lk (h1 : yv Y 226 t = 1) (hg : goW N Y t) (h2 : t < 12 → 0 ≤ yv Y 229 t) (h3 : 12 ≤ t → yv Y 229 t = -1 ∧ yp Y t = t - 12) (hk : kOK own Lb (lkY m own t key vals Y) t) : wOK N own Lb (lkY m own t key vals Y) t := by
  refine ⟨Or.inr (by rw [lk_v (by decide)]; exact h1), fun p y hy hw => absurd hw (dt_none hy), fun _ => ⟨goW_lk.mpr hg, fun z => by rw [lk_v (by decide)]; exact h2 z, fun z => by rw [lk_v (by decide), lk_p]; exact h3 z, hk⟩⟩
theorem cz_lk : cz0 (lkY m own t key vals Y) t := fun z => by rw [lk_1] at z; omega
theorem w32s {v : Int} (h : 0 ≤ v ∧ v ≤ 2000) : w32 v = v := w32_id (by omega) (by omega)
/-- refreshing -/
theorem wOK_rf (h1 : yv Y 226 t = 1) (hg : goW N Y t) (h2 : t < 12 → 0 ≤ yv Y 229 t) (h3 : 12 ≤ t → yv Y 229 t = -1 ∧ yp Y t = t - 12) (hk : yv Y 227 t = 0 ∨ yv Y 227 t = 4) (h0 : 0 ≤ yv Y 242 t) (h9 : yv Y 241 t ≤ 159) : wOK N own Lb (rfY m own t Y) t ∧ cz0 (rfY m own t Y) t ∧ mu own (rfY m own t Y) t ≤ (160 - yv Y 242 t).toNat := by
  unfold rfY
  by_cases c : yv Y 241 t < yv Y 242 t
  · rw [if_pos c]
    obtain ⟨a1, a2, a3⟩ := wOK_cl (N := N) (own := own) (Lb := Lb) (t := t) (how := 1) (Y := Y)
    refine ⟨a1, fun _ => cnA_dt, by rw [a2]; omega⟩
  · rw [if_neg c]
    refine ⟨wOK_lk h1 hg h2 h3 (Or.inl ⟨?_, lk_1, ?_, fun _ => ?_, fun _ => ?_⟩), cz_lk, ?_⟩
    · rw [lk_v (by decide)]; exact hk
    · rw [lk_v (by decide)]; omega
    · rw [lk_v (by decide)]; exact h0
    · rw [lk_v (by decide), lk_v (by decide)]; omega
    · unfold mu
      rw [lk_v (by decide), lk_v (by decide), lk_v (by decide), if_neg (by omega), if_pos hk, if_neg (by omega)]
      exact Nat.le_refl _
theorem okW_clo (ho : okW N own tm w) (hT : ∀ x, x ∈ wT w p → kyo x.1 ∧ x.1 ≠ own p) (hp : p < N) : -1 ≤ cloT (own p) (wT w p) ∧ cloT (own p) (wT w p) ≤ 159 := cloT_rng (ho.2.2.2 p hp).1 hT
theorem wOK_br (h1 : yv Y 226 t = 1) (hg : goW N Y t) (h2 : t < 12 → 0 ≤ yv Y 229 t) (h3 : 12 ≤ t → yv Y 229 t = -1 ∧ yp Y t = t - 12) (hk : yv Y 227 t = 0 ∨ yv Y 227 t = 4) (hc : -1 ≤ cloT (own (yp Y t)) (wT (yw Y) (yp Y t)) ∧ cloT (own (yp Y t)) (wT (yw Y) (yp Y t)) ≤ 159) : wOK N own Lb (brY m own t Y) t ∧ cz0 (brY m own t Y) t ∧ mu own (brY m own t Y) t ≤ 160 := by
  unfold brY
  obtain ⟨c, hcc⟩ : ∃ c, c = cloT (own (yp Y t)) (wT (yw Y) (yp Y t)) := ⟨_, rfl⟩
  rw [← hcc] at hc ⊢
  have v : ∀ a i, a ≠ 241 → a ≠ 242 → yv (setV (setV Y 241 t c) 242 t 0) a i = yv Y a i := fun a i z1 z2 => by
    show vI (st2 (st2 (ys Y) 241 t c) 242 t 0) a i = _
    rw [vI_ne (fun e => z2 e.1), vI_ne (fun e => z1 e.1)]
  have v2 : yv (setV (setV Y 241 t c) 242 t 0) 242 t = 0 := by show vI (st2 (st2 (ys Y) 241 t c) 242 t 0) 242 t = 0; rw [vI_eq rfl]; rfl
  have v1 : yv (setV (setV Y 241 t c) 242 t 0) 241 t = c := by show vI (st2 (st2 (ys Y) 241 t c) 242 t 0) 241 t = c; rw [vI_ne (by omega), vI_eq rfl, w32_id (by omega) (by omega)]
  have vp : yp (setV (setV Y 241 t c) 242 t 0) t = yp Y t := by unfold yp; rw [show vI (ys (setV (setV Y 241 t c) 242 t 0)) 228 t = vI (ys Y) 228 t from v 228 t (by decide) (by decide)]
  obtain ⟨a1, a2, a3⟩ := wOK_rf (N := N) (own := own) (Lb := Lb) (m := m) (t := t) (Y := setV (setV Y 241 t c) 242 t 0) (by rw [v _ _ (by decide) (by decide)]; exact h1) (by unfold goW; rw [v _ _ (by decide) (by decide), v _ _ (by decide) (by decide)]; exact hg) (fun z => by rw [v _ _ (by decide) (by decide)]; exact h2 z) (fun z => by rw [v _ _ (by decide) (by decide), vp]; exact h3 z) (by rw [v _ _ (by decide) (by decide)]; exact hk) (by omega) (by omega)
  exact ⟨a1, a2, by rw [v2] at a3; omega⟩
theorem wOK_tl {n : Nat} {l : List Int} : wOK N own Lb (tlY t n l Y) t ∧ cz0 (tlY t n l Y) t ∧ mu own (tlY t n l Y) t = 0 := by
  unfold tlY
  obtain ⟨a1, a2, a3⟩ := wOK_cl (N := N) (own := own) (Lb := Lb) (t := t) (how := 1) (Y := (yw Y, yl Y, st2 (ys Y) 269 (yv Y 229 t).toNat (n : Int), tlQ (yv Y 229 t).toNat l (yq Y)))
  exact ⟨a1, fun _ => cnA_dt, a2⟩
/-- the next term -/
theorem wOK_nxt (h1 : yv Y 226 t = 1) (hg : goW N Y t) (h2 : t < 12 → 0 ≤ yv Y 229 t) (h3 : 12 ≤ t → yv Y 229 t = -1 ∧ yp Y t = t - 12) (hk : yv Y 227 t = 2) (hl : 0 ≤ yv Y 243 t ∧ yv Y 243 t ≤ 16) (h4 : -1 ≤ yv Y 244 t) (h6 : yv Y 246 t = 0 ∨ yv Y 246 t = 1) (hL : (Lb (yp Y t)).length ≤ 64) : wOK N own Lb (nxtY m own Lb t Y) t ∧ cz0 (nxtY m own Lb t Y) t ∧ (mu own (nxtY m own Lb t Y) t ≤ 2 * (63 - yv Y 244 t).toNat + 1 ∧ (yv Y 244 t < 64 → mu own (nxtY m own Lb t Y) t + 1 ≤ 2 * (64 - yv Y 244 t).toNat)) := by
  unfold nxtY
  have pl : (pbT (yv Y 243 t).toNat (Lb (yp Y t))).length ≤ 64 := Nat.le_trans (List.length_filter_le _ _) hL
  by_cases c : (yv Y 244 t + 1).toNat < (pbT (yv Y 243 t).toNat (Lb (yp Y t))).length
  · rw [if_pos c]
    have v : ∀ a i, a ≠ 244 → yv (setV Y 244 t (yv Y 244 t + 1)) a i = yv Y a i := fun a i z => vI_ne (fun e => z e.1)
    have v4 : yv (setV Y 244 t (yv Y 244 t + 1)) 244 t = yv Y 244 t + 1 := by
      show vI (st2 (ys Y) 244 t (yv Y 244 t + 1)) 244 t = _
      rw [vI_eq rfl, w32s (by omega)]
    have vp : yp (setV Y 244 t (yv Y 244 t + 1)) t = yp Y t := by unfold yp; rw [show vI (ys (setV Y 244 t (yv Y 244 t + 1))) 228 t = vI (ys Y) 228 t from v 228 t (by decide)]
    have mm : mu own (lkY m own t (trY Lb t (setV Y 244 t (yv Y 244 t + 1))).2.1 false (setV Y 244 t (yv Y 244 t + 1))) t = 2 * (63 - yv Y 244 t).toNat + 1 := by
      obtain ⟨K, hK⟩ : ∃ K, K = lkY m own t (trY Lb t (setV Y 244 t (yv Y 244 t + 1))).2.1 false (setV Y 244 t (yv Y 244 t + 1)) := ⟨_, rfl⟩
      have z6 : yv K 226 t = 1 := by rw [hK, lk_v (by decide), v _ _ (by decide)]; exact h1
      have z7 : yv K 227 t = 2 := by rw [hK, lk_v (by decide), v _ _ (by decide)]; exact hk
      have z4 : yv K 244 t = yv Y 244 t + 1 := by rw [hK, lk_v (by decide)]; exact v4
      have z0 : yv K 230 t = 1 := by rw [hK]; exact lk_1
      rw [← hK]
      unfold mu
      rw [z6, z7, z4, z0, if_neg (by decide), if_neg (by decide), if_neg (by decide), if_pos rfl, if_pos rfl]
      omega
    refine ⟨wOK_lk (by rw [v _ _ (by decide)]; exact h1) (by unfold goW; rw [v _ _ (by decide), v _ _ (by decide)]; exact hg) (fun z => by rw [v _ _ (by decide)]; exact h2 z) (fun z => by rw [v _ _ (by decide), vp]; exact h3 z) (Or.inr (Or.inr (Or.inl ⟨?_, Or.inl lk_1, ?_, ?_, ?_, ?_, fun z => ?_⟩))), cz_lk, by rw [mm]; exact Nat.le_refl _, fun _ => by rw [mm]; omega⟩
    · rw [lk_v (by decide), v _ _ (by decide)]; exact hk
    · rw [lk_v (by decide), v _ _ (by decide)]; exact hl
    · rw [lk_v (by decide), v4]; omega
    · rw [lk_v (by decide), lk_v (by decide), lk_p, v4, v _ _ (by decide), vp]; exact c
    · rw [lk_v (by decide), v _ _ (by decide)]; exact h6
    · rw [lk_1] at z; exact absurd z (by decide)
  · rw [if_neg c]
    obtain ⟨a1, a2, a3⟩ := wOK_cl (N := N) (own := own) (Lb := Lb) (t := t) (how := if yv Y 246 t = 0 then 1 else 2) (Y := setV Y 244 t (-1))
    exact ⟨a1, fun _ => cnA_dt, by rw [a2]; omega, fun _ => by rw [a2]; omega⟩
end WSTEP
