/-! what is always so of a work -/
/-- how many requests of a peer are of a work -/
def cnA (p t : Nat) (w : Wd) : Nat := (wQ w p).countP (fun y => decide (qWrk y = some t))
/-- the type of what a work asks -/
def tyS (Y : Ys) (t : Nat) : Int := if yv Y 230 t = 1 then tyL (yl Y t).2.1 else if yv Y 230 t = 2 then 7 else if yv Y 230 t = 3 then 9 else if yv Y 230 t = 4 then 11 else 13
def kOK (own : Nat → Ky) (Lb : Nat → List Trm) (Y : Ys) (t : Nat) : Prop :=
  ((yv Y 227 t = 0 ∨ yv Y 227 t = 4) ∧ yv Y 230 t = 1 ∧ -1 ≤ yv Y 242 t ∧ (yv Y 227 t = 4 → 0 ≤ yv Y 242 t) ∧ (0 ≤ yv Y 242 t → yv Y 242 t ≤ yv Y 241 t ∧ yv Y 241 t ≤ 159)) ∨
  (yv Y 227 t = 1 ∧ yv Y 230 t = 1 ∧ t < 12) ∨
  (yv Y 227 t = 2 ∧ (yv Y 230 t = 1 ∨ yv Y 230 t = 2) ∧ (0 ≤ yv Y 243 t ∧ yv Y 243 t ≤ 16) ∧ 0 ≤ yv Y 244 t ∧ (yv Y 244 t).toNat < (pbT (yv Y 243 t).toNat (Lb (yp Y t))).length ∧ (yv Y 246 t = 0 ∨ yv Y 246 t = 1) ∧ (yv Y 230 t = 2 → ((cnA (yp Y t) t (yw Y) : Nat) : Int) = yv Y 245 t)) ∨
  (yv Y 227 t = 3 ∧ t < 12 ∧ yv Y 269 (yv Y 229 t).toNat = 0 ∧ (1 ≤ yv Y 247 t ∧ yv Y 247 t ≤ 3) ∧ ((yv Y 230 t = 1 ∧ (0 ≤ yv Y 248 t ∧ yv Y 248 t < yv Y 247 t) ∧ ∀ i : Nat, (i : Int) < yv Y 248 t → 0 ≤ yv Y 250 (3 * t + i) ∧ yv Y 250 (3 * t + i) < 32) ∨ (qOK own Y t ∧ cnA (yp Y t) t (yw Y) ≤ 1)))
def wOK (N : Nat) (own : Nat → Ky) (Lb : Nat → List Trm) (Y : Ys) (t : Nat) : Prop :=
  (yv Y 226 t = 0 ∨ yv Y 226 t = 1) ∧ (∀ p y, y ∈ wQ (yw Y) p → qWrk y = some t → yv Y 226 t = 1 ∧ p = yp Y t ∧ qTyp y = tyS Y t) ∧
  (yv Y 226 t = 1 → goW N Y t ∧ (t < 12 → 0 ≤ yv Y 229 t) ∧ (12 ≤ t → yv Y 229 t = -1 ∧ yp Y t = t - 12) ∧ kOK own Lb Y t)
section WOK
variable {N p q t t' : Nat} {own : Nat → Ky} {sd : Nat → Int} {tm ad ty : Int} {w : Wd} {Y : Ys} {Lb : Nat → List Trm} {key : Ky} {bd : List Int} {pb : Option Int}
theorem dt_none {y : Rq} (h : y ∈ wQ (dtW t w) p) : qWrk y ≠ some t := by
  obtain ⟨z, _, e⟩ := List.mem_map.mp (show y ∈ (wQ w p).map (dtQ t) from h)
  rw [← e]
  show (if qWrk z = some t then none else qWrk z) ≠ some t
  by_cases c : qWrk z = some t
  · rw [if_pos c]; simp
  · rw [if_neg c]; exact c
theorem dt_other {y : Rq} (h : y ∈ wQ (dtW t w) p) (hy : qWrk y = some t') : ∃ z, z ∈ wQ w p ∧ qWrk z = some t' ∧ qTyp z = qTyp y := by
  obtain ⟨z, hz, e⟩ := List.mem_map.mp (show y ∈ (wQ w p).map (dtQ t) from h)
  refine ⟨z, hz, ?_, by rw [← e]; rfl⟩
  rw [← e] at hy
  have hy : (if qWrk z = some t then none else qWrk z) = some t' := hy
  by_cases c : qWrk z = some t
  · rw [if_pos c] at hy; cases hy
  · rw [if_neg c] at hy; exact hy
theorem cnA_dt : cnA p t (dtW t w) = 0 := by
  unfold cnA
  rw [List.countP_eq_zero]
  intro y hy
  have := dt_none hy
  simpa using this
theorem cnA_dtne (h : t' ≠ t) : cnA p t' (dtW t w) = cnA p t' w := by
  unfold cnA
  show ((wQ w p).map (dtQ t)).countP _ = _
  rw [List.countP_map]
  congr 1
  funext y
  show decide ((if qWrk y = some t then none else qWrk y) = some t') = _
  by_cases c : qWrk y = some t
  · rw [if_pos c, c]
    have : (some t : Option Nat) ≠ some t' := fun z => h (Option.some.inj z).symm
    simp [this]
  · rw [if_neg c]
theorem ask_mem {y : Rq} (h : y ∈ wQ (askY N own sd tm w p ad ty key bd (some t) pb).1 q) : y ∈ wQ w q ∨ (q = p ∧ qWrk y = some t ∧ qTyp y = ty) := by
  unfold askY at h
  by_cases c : (wQ w p).length = 40
  · rw [if_pos c] at h; exact Or.inl h
  · rw [if_neg c] at h
    have h : y ∈ fup (wQ w) p (wQ w p ++ [newY (wnx w p) ad ty (tm + wst w 4) key (hdB ty (wnx w p : Int) (kf (own p)) ++ bd) (some t) pb]) q := h
    unfold fup at h
    by_cases e : q = p
    · rw [if_pos e] at h
      rcases List.mem_append.mp h with z | z
      · exact Or.inl (by rw [e]; exact z)
      · have := List.mem_singleton.mp z
        rw [this]; exact Or.inr ⟨e, rfl, rfl⟩
    · rw [if_neg e] at h; exact Or.inl h
theorem cnA_ask : cnA p t (askY N own sd tm w p ad ty key bd (some t) pb).1 = cnA p t w + if (askY N own sd tm w p ad ty key bd (some t) pb).2 = true then 1 else 0 := by
  unfold askY
  by_cases c : (wQ w p).length = 40
  · rw [if_pos c, if_neg (by simp)]; rfl
  · rw [if_neg c, if_pos rfl]
    unfold cnA
    show (fup (wQ w) p (wQ w p ++ [newY (wnx w p) ad ty (tm + wst w 4) key (hdB ty (wnx w p : Int) (kf (own p)) ++ bd) (some t) pb]) p).countP _ = _
    rw [fup_eq, List.countP_append]
    congr 1
    rw [List.countP_singleton]
    exact if_pos (by simp only [decide_eq_true_eq]; rfl)
theorem cnA_askne (h : t' ≠ t) : cnA q t' (askY N own sd tm w p ad ty key bd (some t) pb).1 = cnA q t' w := by
  unfold askY
  by_cases c : (wQ w p).length = 40
  · rw [if_pos c]
  · rw [if_neg c]
    unfold cnA
    show (fup (wQ w) p (wQ w p ++ [newY (wnx w p) ad ty (tm + wst w 4) key (hdB ty (wnx w p : Int) (kf (own p)) ++ bd) (some t) pb]) q).countP _ = _
    unfold fup
    by_cases e : q = p
    · rw [if_pos e, List.countP_append, List.countP_singleton, e]
      have : qWrk (newY (wnx w p) ad ty (tm + wst w 4) key (hdB ty (wnx w p : Int) (kf (own p)) ++ bd) (some t) pb) = some t := rfl
      rw [this, if_neg (by simp only [decide_eq_true_eq]; exact fun z => h (Option.some.inj z).symm)]
      rfl
    · rw [if_neg e]
/-- nothing of a work waits: a turn more is nothing -/
theorem dtW_id (h : ∀ p y, y ∈ wQ w p → qWrk y ≠ some t) : dtW t w = w := by
  unfold dtW setQ
  have : (fun p => (wQ w p).map (dtQ t)) = wQ w := by
    funext p
    have e : (wQ w p).map (dtQ t) = (wQ w p).map id := List.map_congr_left (fun y hy => by
      unfold dtQ
      rw [if_neg (h p y hy)]
      rfl)
    rw [e, List.map_id]
  rw [this]
theorem wOK_id (h : wOK N own Lb Y t) (hc : cnA (yp Y t) t (yw Y) = 0) : dtW t (yw Y) = yw Y := dtW_id (fun p y hy hw => by
  obtain ⟨_, e, _⟩ := h.2.1 p y hy hw
  unfold cnA at hc
  rw [List.countP_eq_zero] at hc
  exact hc y (by rw [← e]; exact hy) (by simpa using hw))
end WOK
