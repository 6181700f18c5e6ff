/-! refreshing, by the class -/
theorem fm_perm {l l' : List Int} (h : l.Perm l') : ∀ c : Int, l.foldl max c = l'.foldl max c := fun c => List.Perm.foldl_eq' h (fun x _ y _ z => by omega) c
theorem cloT_fm {ow : Ky} {T : List Row} : ∀ c : Int, T.foldl (fun c x => if x.2.2 = false then max c (kc x.1 ow) else c) c = ((T.filter (fun x => x.2.2 == false)).map (fun x => kc x.1 ow)).foldl max c := by
  induction T with
  | nil => intro c; rfl
  | cons x T ih =>
    intro c
    rw [List.foldl_cons, ih]
    cases hx : x.2.2 with
    | false => rw [List.filter_cons_of_pos (by rw [hx]; rfl), List.map_cons, List.foldl_cons, if_pos rfl]
    | true => rw [List.filter_cons_of_neg (by rw [hx]; decide), if_neg (by decide)]
section CCLO
variable {M : MM} {ow : Nat → Nat × Nat} {t ko m n bA a len : Nat} {own : Ky} {T : List Row} {pf : Nat → Bool} {B : Nat → Nat} {P : Nat → Bool → List Nat} {Cn : Nat → Bool → List (Ky × Int)} {fl : Nat → Int} {sp : List Nat}
theorem c_closest (h : TT M ow t ko m own T pf n bA B P Cn fl a len sp) : f_X20_closest (t : Int) M = some (cloT own T) := by
  obtain ⟨tp, h1, h2, h3, h4, h5, h6⟩ := id h
  obtain ⟨hu, hS, hO, hko, hB, hP, hCn, hF, hL, hN, hW, ht⟩ := id tp
  have hb := hB.1
  have cont : ∀ k, k ≤ n → (allP P k).map (ctc M) = ((List.range k).flatMap (fun i => T.filter (inB n own i false))).map kad := by
    intro k
    induction k with
    | zero => intro _; rfl
    | succ k ih =>
      intro hk
      rw [allP_succ, List.map_append, ih (by omega), hCn k false (by omega), h2 k false (by omega), List.range_succ, List.flatMap_append, List.map_append]
      simp
  have pm : ((allP P n).map (ctc M)).Perm ((T.filter (fun x => x.2.2 == false)).map kad) := by
    rw [cont n (Nat.le_refl _)]
    refine (buckets_perm (n := n) (own := own) (T := T) (b := false) n).map kad |>.trans (List.Perm.of_eq ?_)
    congr 1
    apply List.filter_congr
    intro x _
    have : bkI n own x < n := by unfold bkI; omega
    rw [decide_eq_true this]; rfl
  obtain ⟨g, hg⟩ : ∃ g : Nat → Int, g = fun c => kc (ctc M c).1 own := ⟨_, rfl⟩
  have rng : ∀ (l : List Nat) (c : Int), -1 ≤ c ∧ c ≤ 160 → -1 ≤ (l.map g).foldl max c ∧ (l.map g).foldl max c ≤ 160 := by
    intro l
    induction l with
    | nil => intro c hc; exact hc
    | cons x l ih =>
      intro c hc
      rw [List.map_cons, List.foldl_cons]
      have h1 : 0 ≤ g x := by rw [hg]; exact kc_lo _ _
      have h2 : g x ≤ 160 := by rw [hg]; exact kc_hi _ _
      exact ih _ (by omega)
  have fin : ((allP P n).map g).foldl max (-1) = cloT own T := by
    have e : (allP P n).map g = ((allP P n).map (ctc M)).map (fun y => kc y.1 own) := by rw [List.map_map, hg]; rfl
    rw [e, fm_perm (pm.map _), List.map_map]
    exact (cloT_fm (-1)).symm
  -- a row
  have row : ∀ k, k < n → ∀ (d j : Nat) (fu : Nat) (x : Int), d + j = (P k false).length → d < fu → (-1 ≤ x ∧ x ≤ 160) → lpN (fun s : Int × Int => b_X20_closest_25 (t : Int) s.1 (k : Int) ((B k + 1 : Nat) : Int) s.2 M) fu (x, (j : Int)) = j_X20_closest_62 (t : Int) ((((P k false).drop j).map g).foldl max x) (k : Int) M := by
    intro k hk d
    have rw1 : RowC M (B k + 1) m (P k false) := (hP k false (by omega)).1
    have k22 : (kd M (B k + 1)).1 = 22 := rw1.1.1
    have pl := rw1.2.2.1
    have m20 := rw1.2.2.2.1
    induction d with
    | zero =>
      intro j fu x hj hf hx
      have : j = (P k false).length := by omega
      rw [this, List.drop_length]
      refine lpN_end (by omega) ?_
      show b_X20_closest_25 (t : Int) x (k : Int) ((B k + 1 : Nat) : Int) (((P k false).length : Nat) : Int) M = _
      unfold b_X20_closest_25
      rw [gfi_e k22, rw1.2.1, Option.bind_some, if_neg (by omega)]
      rfl
    | succ d ih =>
      intro j fu x hj hf hx
      obtain ⟨fu', rfl⟩ : ∃ f, fu = f + 1 := ⟨fu - 1, by omega⟩
      obtain ⟨c, hc⟩ : ∃ c, c = (P k false).getD j 0 := ⟨_, rfl⟩
      have cm : c ∈ P k false := by rw [hc]; exact getD_mem (by omega)
      have ct := rw1.2.2.2.2.2 c cm
      have gr : 0 ≤ g c ∧ g c ≤ 160 := by rw [hg]; exact ⟨kc_lo _ _, kc_hi _ _⟩
      have jm : jmax x (kcom (kC M ko) (kC M (c + 1))) = max x (g c) := by
        have e : kcom (kC M ko) (kC M (c + 1)) = g c := by
          rw [hg]
          show _ = kc (ky (kC M (c + 1))) own
          rw [kc_comm, ← hO, kc_ky]
        rw [e]
        unfold jmax
        rw [w32_id (by omega) (by omega), w32_id (by omega) (by omega)]
        split <;> omega
      rw [lpN_cnt (b := fun s : Int × Int => b_X20_closest_25 (t : Int) s.1 (k : Int) ((B k + 1 : Nat) : Int) s.2 M) (s := (x, (j : Int))) (s' := (max x (g c), ((j + 1 : Nat) : Int)))]
      · rw [ih (j + 1) fu' (max x (g c)) (by omega) (by omega) (by omega)]
        have : (P k false).drop j = c :: (P k false).drop (j + 1) := by
          rw [List.drop_eq_getElem_cons (by omega), hc, List.getD_eq_getElem?_getD, List.getElem?_eq_getElem (by omega)]; rfl
        rw [this, List.map_cons, List.foldl_cons]
      · show b_X20_closest_25 (t : Int) x (k : Int) ((B k + 1 : Nat) : Int) (j : Int) M = _
        unfold b_X20_closest_25
        have k20 : (kd M t).1 = 20 := hS.1
        rw [gfi_e k22, rw1.2.1, Option.bind_some, w32_nn (by omega), w32_nn (by omega), if_pos (by omega), gfr_e k20, hS.2.1, Option.bind_some, gfr_e k22, rw1.1.2.1, Option.bind_some, lar_n rw1.1.2.2 (by decide) (by omega) (by omega), Option.bind_some, rw1.2.2.2.2.1 j (by omega), ← hc, gfr_e (by rw [ct.1]), ct.2.1, Option.bind_some, ck_e hS.2.2.1.1, e_X3_common hS.2.2.1 ct.2.2.2, Option.bind_some, jm]
        rfl
  -- all buckets
  have loop : ∀ d k fu, d + k = n → d < fu → lpN (fun s : Int × Int => b_X20_closest_4 (t : Int) s.1 s.2 M) fu (((allP P k).map g).foldl max (-1), (k : Int)) = some (((allP P n).map g).foldl max (-1)) := by
    intro d
    induction d with
    | zero =>
      intro k fu hk hf
      have : k = n := by omega
      subst this
      refine lpN_end (by omega) ?_
      show b_X20_closest_4 (t : Int) _ (k : Int) M = _
      unfold b_X20_closest_4
      rw [gfi_e hS.1, hS.2.2.2.2.2.2.2.1, Option.bind_some, if_neg (by omega)]
    | succ d ih =>
      intro k fu hk hf
      obtain ⟨fu', rfl⟩ : ∃ f, fu = f + 1 := ⟨fu - 1, by omega⟩
      obtain ⟨x, hx⟩ : ∃ x, x = ((allP P k).map g).foldl max (-1) := ⟨_, rfl⟩
      have xr : -1 ≤ x ∧ x ≤ 160 := by rw [hx]; exact rng _ _ (by omega)
      have bk := hB.2.1 k (by omega)
      have rw1 : RowC M (B k + 1) m (P k false) := (hP k false (by omega)).1
      have pl := rw1.2.2.1
      have m20 := rw1.2.2.2.1
      have ih := ih (k + 1) fu' (by omega) (by omega)
      rw [allP_succ, List.map_append, List.foldl_append, ← hx] at ih
      rw [← hx, lpN_cnt (b := fun s : Int × Int => b_X20_closest_4 (t : Int) s.1 s.2 M) (s := (x, (k : Int))) (s' := (((P k false).map g).foldl max x, ((k + 1 : Nat) : Int)))]
      · exact ih
      · show b_X20_closest_4 (t : Int) x (k : Int) M = _
        unfold b_X20_closest_4 l_X20_closest_25
        rw [gfi_e hS.1, hS.2.2.2.2.2.2.2.1, Option.bind_some, w32_nn (by omega), w32_nn (by omega), if_pos (by omega), gfr_e hS.1, hS.2.2.2.2.2.1, Option.bind_some, lar_n hS.2.2.2.2.2.2.1 (by decide) (by omega) (by decide), Option.bind_some, bk.1, gfr_e (by rw [bk.2.1.1]), bk.2.1.2.1, Option.bind_some]
        have := row k (by omega) (P k false).length 0 FU x (by omega) (by unfold FU; omega) xr
        rw [List.drop_zero] at this
        rw [show lpN (fun s : Int × Int => b_X20_closest_25 (t : Int) s.1 (k : Int) ((B k + 1 : Nat) : Int) s.2 M) FU (x, 0) = _ from this]
        unfold j_X20_closest_62
        rfl
  unfold f_X20_closest l_X20_closest_4
  have := loop n 0 FU (by omega) (by unfold FU; omega)
  rw [fin] at this
  exact this
/-- a bit of a key is turned -/
theorem e_X3_turn {M : MM} {a i : Nat} (hk : isK M a) (hi : i < 160) : f_X3_turn (a : Int) (i : Int) M = some (sI M (a + 1) (i / 32) (bxor (rI M (a + 1) (i / 32)) (bshl 1 (31 - ((i % 32 : Nat) : Int))))) := by
  unfold f_X3_turn
  rw [gfr_e hk.1, hk.2.1, Option.bind_some, dvi_e (p := i) (q := 32) (w32_nn (by omega)) (by decide) (by decide), Option.bind_some, lai_e hk.2.2 (by decide) (by decide) (w32_nn (by omega)) (by omega), Option.bind_some, rmi_e (p := i) (q := 32) (w32_nn (by omega)) (by decide) (by decide), Option.bind_some, sai_e hk.2.2 (by decide) (by decide) (w32_nn (by omega)) (by omega), Option.bind_some]
end CCLO
