/-! what comes behind a lookup keeps what is so of the work -/
/-- what is so where a step takes place -/
def LI (N : Nat) (own : Nat → Ky) (Lb : Nat → List Trm) (Y : Ys) (t : Nat) : Prop := wOK N own Lb Y t ∧ (yv Y 226 t ≠ 0 → cz0 Y t ∧ pgQ own Y t)
/-- what is so besides -/
def sdY (m N : Nat) (own : Nat → Ky) (tm : Int) (Lb : Nat → List Trm) (ev : Nat → Nat) (Y : Ys) : Prop := okW N own tm (yw Y) ∧ EvI N ev (yw Y) ∧ (∀ t, t < 44 → okEs (yl Y t).1 (yl Y t).2.2.1) ∧ (∀ p, p < 32 → okT (own p) (wT (yw Y) p) ∧ okSt (wS (yw Y) p) ∧ okLb (Lb p)) ∧ (1 ≤ m ∧ m ≤ 20)
section WHOLD
variable {m al N p q t t' : Nat} {own : Nat → Ky} {sd : Nat → Int} {tm ad ty how r : Int} {w : Wd} {Y Y1 : Ys} {Lb : Nat → List Trm} {key : Ky} {bd : List Int} {vals : Bool} {ev : Nat → Nat}
theorem LI_cl (h : yv Y 226 t = 0) (hw : wOK N own Lb Y t) : LI N own Lb Y t := ⟨hw, fun z => absurd h z⟩
theorem LI_1 (hw : wOK N own Lb Y t) (h : yv Y 226 t ≠ 0 → yv Y 230 t = 1 ∨ yv Y 230 t = 2) : LI N own Lb Y t := ⟨hw, fun z => ⟨fun a => by have := h z; omega, fun a => by have := h z; omega, fun a => by have := h z; omega⟩⟩
theorem mu_q (h : yv Y 227 t = 3) (h1 : yv Y 226 t = 1) : mu own Y t = if yv Y 230 t = 1 then 1400 + (3 - yv Y 248 t).toNat else if yv Y 230 t = 3 then 1300 else if yv Y 230 t = 4 then 1000 + (if qH (yq Y) (3 * t + (qO (yq Y) t).getD (if yv Y 247 t = 1 then 0 else 1) 0) = own (yp Y t) then (230 - yv Y 254 t).toNat else 0) else (if yv Y 263 t = 0 then 300 else 0) + (299 - yv Y 264 t).toNat := by
  unfold mu
  rw [h1, if_neg (by decide), h, if_neg (by decide), if_neg (by decide), if_neg (by decide)]
theorem mu_q4 (h : yv Y 227 t = 3) (h1 : yv Y 226 t = 1) (hq : qOK own Y t) (h4 : yv Y 230 t = 4) : mu own Y t ≤ 1230 := by
  rw [mu_q h h1, h4, if_neg (by decide), if_neg (by decide), if_pos rfl]
  by_cases c : qH (yq Y) (3 * t + (qO (yq Y) t).getD (if yv Y 247 t = 1 then 0 else 1) 0) = own (yp Y t)
  · rw [if_pos c]
    have := hq.2.2.2.2.2.1 c
    omega
  · rw [if_neg c]; omega
theorem wOK_hz {i : Nat} (hh : hdW N Y t) (hk : yv Y 227 t = 3) (ht : t < 12) (h9 : yv Y 269 (yv Y 229 t).toNat = 0) (h7 : 1 ≤ yv Y 247 t ∧ yv Y 247 t ≤ 3) (h8 : yv Y 248 t = ((i + 1 : Nat) : Int)) (hi : (i : Int) < yv Y 247 t) (h1 : yv Y 230 t = 1) (h5 : ∀ j : Nat, (j : Int) < yv Y 248 t → 0 ≤ yv Y 250 (3 * t + j) ∧ yv Y 250 (3 * t + j) < 32) : LI N own Lb (hldZ m own t i Y) t ∧ mu own (hldZ m own t i Y) t < 1400 + (3 - (i : Int)).toNat := by
  have ff : FT t Y (hldZ m own t i Y) := FT_hz
  unfold hldZ at ff ⊢
  by_cases c : ((i + 1 : Nat) : Int) < yv Y 247 t
  · rw [if_pos c] at ff ⊢
    refine ⟨LI_1 (wOK_lk hh.1 hh.2.1 hh.2.2.1 hh.2.2.2 (Or.inr (Or.inr (Or.inr ⟨?_, ht, ?_, ?_, Or.inl ⟨lk_1, ?_, fun j hj => ?_⟩⟩)))) (fun _ => Or.inl lk_1), ?_⟩
    · rw [lk_v (by decide)]; exact hk
    · rw [lk_v (by decide), lk_v (by decide)]; exact h9
    · rw [lk_v (by decide)]; exact h7
    · rw [lk_v (by decide), lk_v (by decide)]; omega
    · rw [lk_v (by decide)] at hj
      rw [lk_v (by decide)]; exact h5 j hj
    · rw [mu_q (by rw [lk_v (by decide)]; exact hk) (by rw [lk_v (by decide)]; exact hh.1), lk_1, if_pos rfl, lk_v (by decide), h8]
      omega
  · rw [if_neg c] at ff ⊢
    obtain ⟨n, hn⟩ : ∃ n : Nat, yv Y 247 t = (n : Int) := ⟨(yv Y 247 t).toNat, by omega⟩
    obtain ⟨v0, hv0⟩ : ∃ v0 : Int, v0 = if yv Y 247 t = 1 then 4 else 3 := ⟨_, rfl⟩
    have hv1 : (yv Y 247 t = 1 ∧ v0 = 4) ∨ (yv Y 247 t ≠ 1 ∧ v0 = 3) := by
      rw [hv0]
      by_cases c : yv Y 247 t = 1
      · rw [if_pos c]; exact Or.inl ⟨c, rfl⟩
      · rw [if_neg c]; exact Or.inr ⟨c, rfl⟩
    obtain ⟨Y2, hY⟩ : ∃ Y2, Y2 = (dtW t (yw Y), yl Y, st2 (st2 (ys Y) 254 t 0) 230 t v0, arQ t (arrO (fun k => yv Y 252 (3 * t + k)) (yv Y 247 t).toNat) (yq Y)) := ⟨_, rfl⟩
    rw [← hv0] at ff ⊢
    rw [← hY] at ff ⊢
    have v : ∀ a i, a ≠ 254 → a ≠ 230 → yv Y2 a i = yv Y a i := fun a i z1 z2 => by
      rw [hY]
      show vI (st2 (st2 (ys Y) 254 t 0) 230 t v0) a i = _
      rw [vI_ne (by omega), vI_ne (by omega)]
    have w0 : yv Y2 230 t = v0 := by
      rw [hY]
      show vI (st2 (st2 (ys Y) 254 t 0) 230 t v0) 230 t = _
      rw [vI_eq rfl, w32s (by omega)]
    have w4 : yv Y2 254 t = 0 := by
      rw [hY]
      show vI (st2 (st2 (ys Y) 254 t 0) 230 t v0) 254 t = _
      rw [vI_ne (by omega), vI_eq rfl]; rfl
    have vp := FT_p ff
    have eO : qO (yq Y2) t = arrO (fun k => yv Y 252 (3 * t + k)) n := by
      rw [hY]
      show fup (qO (yq Y)) t (arrO (fun k => yv Y 252 (3 * t + k)) (yv Y 247 t).toNat) t = _
      rw [fup_eq, hn]; rfl
    have eL : qL (yq Y2) t = [] := by rw [hY]; exact fup_eq
    have eF : qF (yq Y2) t = [] := by rw [hY]; exact fup_eq
    have eB : qB (yq Y2) t = [] := by rw [hY]; exact fup_eq
    have cn : cnA (yp Y2 t) t (yw Y2) = 0 := by rw [hY]; exact cnA_dt
    have none : ∀ q y, y ∈ wQ (yw Y2) q → qWrk y ≠ some t := fun q y hy => by rw [hY] at hy; exact dt_none hy
    have qok : qOK own Y2 t := by
      unfold qOK
      rw [v 247 _ (by omega) (by omega), w0, w4, eO, eL, eF, eB, arr_len, hn]
      refine ⟨by omega, by omega, ⟨rfl, fun y hy => by have := arr_lt _ _ _ hy; omega⟩, fun z => by omega, fun j hj => by rw [v 250 _ (by omega) (by omega)]; exact h5 j (by omega), fun _ => by omega, ⟨by show (0 : Nat) ≤ 290; omega, fun b hb => by cases hb⟩, fun z1 z2 => by omega, ⟨by show (0 : Nat) ≤ 200; omega, List.nodup_nil, fun z hz => by cases hz⟩, fun z => by omega, fun _ => ⟨rfl, fun z hz => by cases hz⟩⟩
    have k2 : yv Y2 227 t = 3 := by rw [v _ _ (by omega) (by omega)]; exact hk
    have g2 : yv Y2 226 t = 1 := by rw [v _ _ (by omega) (by omega)]; exact hh.1
    refine ⟨⟨wOK_mk (hd_ft hh ff (v _ _ (by omega) (by omega))) (fun q y hy hw => absurd hw (none q y hy)) (Or.inr (Or.inr (Or.inr ⟨k2, ht, ?_, ?_, Or.inr ⟨qok, by omega⟩⟩))), fun _ => ⟨fun _ => cn, fun _ => ⟨w4, eL⟩, fun _ _ => ⟨by rw [w4, eL]; rfl, by rw [eL]; show (0 : Nat) < 200; omega, by rw [eL]; rfl⟩⟩⟩, ?_⟩
    · rw [v _ _ (by omega) (by omega), v _ _ (by omega) (by omega)]; exact h9
    · rw [v _ _ (by omega) (by omega)]; exact h7
    · rcases hv1 with ⟨_, z⟩ | ⟨_, z⟩
      · have := mu_q4 k2 g2 qok (by omega)
        omega
      · rw [mu_q k2 g2, w0, z, if_neg (by decide), if_pos rfl]; omega
/-- the holder of a term -/
theorem wOK_hld (hh : hdW N Y t) (hk : yv Y 227 t = 3) (ht : t < 12) (h9 : yv Y 269 (yv Y 229 t).toNat = 0) (h7 : 1 ≤ yv Y 247 t ∧ yv Y 247 t ≤ 3) (h8 : 0 ≤ yv Y 248 t ∧ yv Y 248 t < yv Y 247 t) (h1 : yv Y 230 t = 1) (h5 : ∀ j : Nat, (j : Int) < yv Y 248 t → 0 ≤ yv Y 250 (3 * t + j) ∧ yv Y 250 (3 * t + j) < 32) (ha : ∀ x, x ∈ (yl Y t).2.2.1 → 0 ≤ eAdr x ∧ eAdr x < 32) : LI N own Lb (hldY m own t Y) t ∧ mu own (hldY m own t Y) t < mu own Y t := by
  have m0 : mu own Y t = 1400 + (3 - yv Y 248 t).toNat := by rw [mu_q hk hh.1, h1, if_pos rfl]
  unfold hldY
  cases e : hldE (own (yp Y t)) (qK (yq Y) (3 * t + (yv Y 248 t).toNat)) (wS (yw Y) (yp Y t)) (frontE m (yl Y t).2.2.1) with
  | none =>
    obtain ⟨a1, a2, a3⟩ := wOK_tl (N := N) (own := own) (Lb := Lb) (t := t) (n := 0) (l := []) (Y := Y)
    exact ⟨LI_cl clS_0 a1, by rw [a3]; omega⟩
  | some x =>
    dsimp only
    obtain ⟨i, hi⟩ : ∃ i : Nat, yv Y 248 t = (i : Int) := ⟨(yv Y 248 t).toNat, by omega⟩
    have hx : 0 ≤ eAdr x ∧ eAdr x < 32 := ha x (front_mem (List.mem_of_find?_eq_some e))
    rw [hi, show ((i : Nat) : Int).toNat = i from rfl]
    obtain ⟨s, hs⟩ : ∃ s, s = st2 (st2 (st2 (ys Y) 250 (3 * t + i) (eAdr x)) 252 (3 * t + i) (hcE (own (yp Y t)) (qK (yq Y) (3 * t + i)) (wS (yw Y) (yp Y t)) x)) 248 t ((i : Int) + 1) := ⟨_, rfl⟩
    rw [← hs]
    have g : ∀ a j, a ≠ 250 → a ≠ 252 → a ≠ 248 → vI s a j = yv Y a j := fun a j z1 z2 z3 => by rw [hs, vI_ne (by omega), vI_ne (by omega), vI_ne (by omega)]
    have g8 : vI s 248 t = ((i + 1 : Nat) : Int) := by rw [hs, vI_eq rfl, w32s (by omega)]; omega
    have g5 : ∀ j, vI s 250 (3 * t + j) = if j = i then eAdr x else yv Y 250 (3 * t + j) := fun j => by
      rw [hs, vI_ne (by omega), vI_ne (by omega)]
      by_cases c : j = i
      · rw [if_pos c, c, vI_eq rfl, w32s (by omega)]
      · rw [if_neg c]; exact vI_ne (by omega)
    obtain ⟨Y1, hY⟩ : ∃ Y1 : Ys, Y1 = (yw Y, yl Y, s, hdQ (3 * t + i) (eKey x) (yq Y)) := ⟨_, rfl⟩
    have v : ∀ a j, a ≠ 250 → a ≠ 252 → a ≠ 248 → yv Y1 a j = yv Y a j := fun a j z1 z2 z3 => by rw [hY]; exact g a j z1 z2 z3
    have hh1 : hdW N Y1 t := by
      unfold hdW goW yp at *
      rw [v _ _ (by omega) (by omega) (by omega), v _ _ (by omega) (by omega) (by omega), v _ _ (by omega) (by omega) (by omega), show vI (ys Y1) 228 t = vI (ys Y) 228 t from v 228 t (by omega) (by omega) (by omega)]
      exact hh
    rw [← hY]
    obtain ⟨b1, b2⟩ := wOK_hz (N := N) (own := own) (Lb := Lb) (m := m) (i := i) hh1 (by rw [v _ _ (by omega) (by omega) (by omega)]; exact hk) ht (by rw [v _ _ (by omega) (by omega) (by omega), v _ _ (by omega) (by omega) (by omega)]; exact h9) (by rw [v _ _ (by omega) (by omega) (by omega)]; exact h7) (by rw [hY]; exact g8) (by rw [v _ _ (by omega) (by omega) (by omega)]; omega) (by rw [v _ _ (by omega) (by omega) (by omega)]; exact h1) (fun j hj => by
      have e8 : yv Y1 248 t = ((i + 1 : Nat) : Int) := by rw [hY]; exact g8
      have e5 : yv Y1 250 (3 * t + j) = if j = i then eAdr x else yv Y 250 (3 * t + j) := by rw [hY]; exact g5 j
      rw [e5]
      by_cases c : j = i
      · rw [if_pos c]; exact hx
      · rw [if_neg c]; exact h5 j (by omega))
    exact ⟨b1, by rw [m0, hi]; exact b2⟩
/-- behind a lookup -/
theorem LI_beh (hs : sdY m N own tm Lb ev Y) (ht : t < 44) (h : wOK N own Lb Y t) (hg : yv Y 226 t ≠ 0) (h1 : yv Y 230 t = 1) : LI N own Lb (behY m N own sd tm Lb t Y) t ∧ mu own (behY m N own sd tm Lb t Y) t < mu own Y t := by
  obtain ⟨hh, hk⟩ := wOK_hd h hg
  have pN : yp Y t < N := by have := hh.2.1.1; show (yv Y 228 t).toNat < N; omega
  have p32 : yp Y t < 32 := by have := hs.1.2.2.1; omega
  have mm : mu own Y t = if yv Y 227 t = 0 ∨ yv Y 227 t = 4 then (if yv Y 242 t < 0 then 400 else (160 - yv Y 242 t).toNat) else if yv Y 227 t = 1 then 1 else if yv Y 227 t = 2 then 2 * (64 - yv Y 244 t).toNat + 1 else 1400 + (3 - yv Y 248 t).toNat := by
    unfold mu
    rw [if_neg hg, h1, if_pos rfl, if_pos rfl]
  have lk : ∀ Y2, wOK N own Lb Y2 t ∧ cz0 Y2 t → yv Y2 227 t = yv Y 227 t → yv Y 227 t ≠ 3 → LI N own Lb Y2 t := fun Y2 z1 z2 z3 => LI_1 z1.1 (fun z => by
    have := (wOK_hd z1.1 z).2
    unfold kOK at this
    omega)
  unfold behY
  rcases hk with ⟨k1, k2, k3, k4, k5⟩ | ⟨k1, k2, k3⟩ | ⟨k1, k2, k3, k4, k5, k6, k7⟩ | ⟨k1, k2, k3, k4, k5⟩
  · rw [if_pos k1] at mm ⊢
    by_cases c : yv Y 242 t < 0
    · rw [if_pos c] at mm ⊢
      obtain ⟨hok, _, _⟩ := hs.2.2.2.1 (yp Y t) p32
      obtain ⟨b1, b2, b3⟩ := wOK_br (N := N) (own := own) (Lb := Lb) (m := m) hh.1 hh.2.1 hh.2.2.1 hh.2.2.2 k1 (okW_clo hs.1 (fun x hx => ⟨(hok.2.2 x hx).1, (hok.2.2 x hx).2.2⟩) pN)
      exact ⟨lk _ ⟨b1, b2⟩ FT_br.2.2.2.1.1 (by omega), by rw [mm]; omega⟩
    · rw [if_neg c] at mm ⊢
      have c0 : 0 ≤ yv Y 242 t := by omega
      have k5 := k5 c0
      have f : FT t Y (setV Y 242 t (yv Y 242 t + 1)) := FT_v (by omega)
      have v : ∀ a, a ≠ 242 → yv (setV Y 242 t (yv Y 242 t + 1)) a t = yv Y a t := fun a z => vI_ne (by omega)
      have v2 : yv (setV Y 242 t (yv Y 242 t + 1)) 242 t = yv Y 242 t + 1 := by
        show vI (st2 (ys Y) 242 t (yv Y 242 t + 1)) 242 t = _
        rw [vI_eq rfl, w32s (by omega)]
      have hh1 := hd_ft hh f (v 226 (by omega))
      obtain ⟨b1, b2, b3⟩ := wOK_rf (N := N) (own := own) (Lb := Lb) (m := m) hh1.1 hh1.2.1 hh1.2.2.1 hh1.2.2.2 (by rw [v _ (by omega)]; exact k1) (by omega) (by rw [v _ (by omega)]; omega)
      exact ⟨lk _ ⟨b1, b2⟩ ((f.trans FT_rf).2.2.2.1.1) (by omega), by rw [mm]; rw [v2] at b3; omega⟩
  · rw [if_neg (by omega), if_pos k1] at mm ⊢
    obtain ⟨a1, a2, a3⟩ := wOK_tl (N := N) (own := own) (Lb := Lb) (t := t) (n := (frontE m (yl Y t).2.2.1).length) (l := fwE (frontE m (yl Y t).2.2.1)) (Y := Y)
    exact ⟨LI_cl clS_0 a1, by rw [a3]; omega⟩
  · rw [if_neg (by omega), if_neg (by omega), if_pos k1] at mm ⊢
    obtain ⟨b1, b2, b3⟩ := wOK_sto (N := N) (own := own) (sd := sd) (tm := tm) (Lb := Lb) (m := m) hh k1 k3 k4 k5 k6 hs.2.2.2.2.2
    exact ⟨lk _ ⟨b1, b2⟩ FT_sto.2.2.2.1.1 (by omega), by rw [b3, mm]; omega⟩
  · rw [if_neg (by omega), if_neg (by omega), if_neg (by omega)]
    have ha : ∀ x, x ∈ (yl Y t).2.2.1 → 0 ≤ eAdr x ∧ eAdr x < 32 := fun x hx => ((hs.2.2.1 t ht).2.2 x hx).2.1
    rcases k5 with ⟨g1, g2, g3⟩ | ⟨g1, _⟩
    · exact wOK_hld hh k1 k2 k3 k4 g2 h1 g3 ha
    · have := g1.2.1; omega
end WHOLD
