/-! which requests wait -/
section VPRB
variable {V W : VV} {p s : Nat} {R : List Rq} {x y : Rq} {nx : Nat} {nxs : Nat → Nat} {Rs : Nat → List Rq} {l : List Int}
def slK (V : VV) (p k : Nat) : List Nat := (rws (fun i => 40 * p + i) k).filter (fun r => decide (vI V 197 r ≠ 0))
theorem slK_succ {k : Nat} : slK V p (k + 1) = slK V p k ++ if vI V 197 (40 * p + k) ≠ 0 then [40 * p + k] else [] := by
  unfold slK
  rw [rws_filter_succ]
  by_cases c : vI V 197 (40 * p + k) = 0
  · rw [if_neg (by simpa using c), if_neg (fun z => z c)]
  · rw [if_pos (by simpa using c), if_pos c]
theorem v_waiting (h : RqV V p R nx) (hp : p < 32) : f_X16_waiting (p : Int) V = some (R.length : Int) := by
  have lp := lp_seq (b := fun s : Int × Int => b_X16_waiting_7 (p : Int) s.1 s.2 V) (x := some (((slK V p 40).length : Nat) : Int)) (fun k => ((((slK V p k).length : Nat) : Int), ((40 * p + k : Nat) : Int))) 40
    (fun k hk => by
      show b_X16_waiting_7 (p : Int) (((slK V p k).length : Nat) : Int) ((40 * p + k : Nat) : Int) V = some (.inl ((((slK V p (k + 1)).length : Nat) : Int), ((40 * p + (k + 1) : Nat) : Int)))
      unfold b_X16_waiting_7 j_X16_waiting_33
      rw [c40m, cadd40, w32_nn (by omega), w32_nn (by omega), if_pos (by omega), l2_n (by omega) (by decide), Option.bind_some, w32_vI, slK_succ]
      by_cases c : vI V 197 (40 * p + k) = 0
      · rw [if_pos c, if_neg (fun z => z c), List.append_nil]; simp [cnt]; omega
      · rw [if_neg c, if_pos c, List.length_append]; simp [cnt]; omega)
    (by
      show b_X16_waiting_7 (p : Int) _ ((40 * p + 40 : Nat) : Int) V = _
      unfold b_X16_waiting_7
      rw [c40m, cadd40, if_neg (by omega)]) FU 0 (by omega) (by unfold FU; omega)
  unfold f_X16_waiting l_X16_waiting_7
  rw [c40m, ← rq_len h]
  exact lp
theorem v_probes {c : Int} (h : RqV V p R nx) (hp : p < 32) (hc : 0 ≤ c ∧ c < 160) : f_X16_probes (p : Int) c V = some (b2i (R.any (fun y => decide (qPrb y = some c)))) := by
  let A : Nat → Bool := fun k => (slK V p k).any (fun r => decide (vI V 206 r = c))
  have lp := lp_seq (b := fun s : Int × Int => b_X16_probes_8 (p : Int) c s.1 s.2 V) (x := some (b2i (A 40))) (fun k => (b2i (A k), ((40 * p + k : Nat) : Int))) 40
    (fun k hk => by
      show b_X16_probes_8 (p : Int) c (b2i (A k)) ((40 * p + k : Nat) : Int) V = some (.inl (b2i (A (k + 1)), ((40 * p + (k + 1) : Nat) : Int)))
      have e1 : A (k + 1) = (A k || (decide (vI V 197 (40 * p + k) ≠ 0) && decide (vI V 206 (40 * p + k) = c))) := by
        show (slK V p (k + 1)).any _ = _
        rw [slK_succ, List.any_append]
        congr 1
        by_cases c1 : vI V 197 (40 * p + k) = 0
        · rw [if_neg (fun z => z c1)]; simp [c1]
        · rw [if_pos c1]; simp [c1]
      unfold b_X16_probes_8 j_X16_probes_45 j_X16_probes_49 j_X16_probes_50
      rw [c40m, cadd40, w32_nn (by omega), w32_nn (by omega), if_pos (by omega), w32_b2i, l2_n (by omega) (by decide), Option.bind_some, l2_n (by omega) (by decide), Option.bind_some, w32_vI, w32_vI, w32_id (show -2147483648 ≤ c by omega) (by omega), e1]
      cases hA : A k with
      | true => rw [if_neg (by decide)]; rfl
      | false =>
        rw [if_pos (by decide)]
        by_cases c1 : vI V 197 (40 * p + k) = 0
        · rw [if_pos c1, decide_eq_false (fun z => z c1)]; rfl
        · rw [if_neg c1, decide_eq_true c1]
          by_cases c2 : vI V 206 (40 * p + k) = c
          · rw [if_pos c2, decide_eq_true c2]; rfl
          · rw [if_neg c2, decide_eq_false c2]; rfl)
    (by
      show b_X16_probes_8 (p : Int) c (b2i (A 40)) ((40 * p + 40 : Nat) : Int) V = _
      unfold b_X16_probes_8
      rw [c40m, cadd40, if_neg (by omega), bz_e b2i_v]) FU 0 (by omega) (by unfold FU; omega)
  have e2 : A 40 = R.any (fun y => decide (qPrb y = some c)) := by
    rw [Bool.eq_iff_iff]
    show (slQ V p).any _ = true ↔ _
    rw [List.any_eq_true, List.any_eq_true]
    constructor
    · rintro ⟨r, hr, hq⟩
      refine ⟨gQ V r, rq_slot h hr, ?_⟩
      have hq : vI V 206 r = c := by simpa using hq
      show decide ((if 0 ≤ vI V 206 r then some (vI V 206 r) else none) = some c) = true
      rw [hq, if_pos hc.1]; simp
    · rintro ⟨z, hz, hq⟩
      obtain ⟨r, hr, rfl⟩ := rq_row h hz
      refine ⟨r, hr, ?_⟩
      have hq : qPrb (gQ V r) = some c := by simpa using hq
      have hq : (if 0 ≤ vI V 206 r then some (vI V 206 r) else none) = some c := hq
      split at hq
      · simpa using hq
      · cases hq
  unfold f_X16_probes l_X16_probes_8
  rw [c40m, ← e2]
  exact lp
/-- the request that waits for what came -/
def awQ (num ad ty : Int) (key : Ky) (y : Rq) : Bool := decide (qNum y = num) && decide (qAdr y = ad) && decide (qTyp y = ty) && decide (qKey y = key)
theorem m272 : mA 272 5 := by refine ⟨?_, ?_, ?_, ?_, ?_⟩ <;> decide
theorem v_awaited {ad : Int} (h : RqV V p R nx) (hp : p < 32) (hI : InV V l) (hb : isBL l) (hl : 25 ≤ l.length) (had : w32 ad = ad) :
    (∃ s, s ∈ slQ V p ∧ f_X16_awaited (p : Int) ad V = some (s : Int) ∧ awQ (wd4 (fun j => l.getD (1 + j) 0)) ad (l.getD 0 0 - 1) (gk V 272 0) (gQ V s) = true) ∨ (f_X16_awaited (p : Int) ad V = some (-1) ∧ ∀ y, y ∈ R → awQ (wd4 (fun j => l.getD (1 + j) 0)) ad (l.getD 0 0 - 1) (gk V 272 0) y = false) := by
  have g0 := InV_get hI hb (i := 0) (by omega)
  have hn : f_X16_numberIn V = some (wd4 (fun j => l.getD (1 + j) 0)) := by
    rw [e_numberIn (fun i hi => by have := InV_get hI hb (i := i) (by omega); rw [this.1]; exact this.2)]
    congr 1
    unfold wd4 bV
    rw [(InV_get hI hb (i := 1 + 0) (by omega)).1, (InV_get hI hb (i := 1 + 1) (by omega)).1, (InV_get hI hb (i := 1 + 2) (by omega)).1, (InV_get hI hb (i := 1 + 3) (by omega)).1]
  obtain ⟨num, hnum⟩ : ∃ num, num = wd4 (fun j => l.getD (1 + j) 0) := ⟨_, rfl⟩
  have hwn : w32 num = num := by rw [hnum]; exact w32_w32 _
  rw [← hnum] at hn ⊢
  have fnd0 := lp_find (b := fun s' : Int => b_X16_awaited_5 (p : Int) ad s' V) (fun i => ((40 * p + i : Nat) : Int)) 40 (fun i => decide (vI V 197 (40 * p + i) ≠ 0) && awQ num ad (l.getD 0 0 - 1) (gk V 272 0) (gQ V (40 * p + i))) (fun i => some ((40 * p + i : Nat) : Int)) (some (-1))
    (fun i hi => by
      show b_X16_awaited_5 (p : Int) ad ((40 * p + i : Nat) : Int) V = _
      have e1 : (200 : Int) = ((200 : Nat) : Int) := rfl
      have e2 : (272 : Int) = ((272 : Nat) : Int) := rfl
      have e3 : (0 : Int) = ((0 : Nat) : Int) := rfl
      have sm := v_same (V := V) (p := 5 * (40 * p + i)) (p' := 0) m200 (by omega) (by decide) m272 (by decide) (by decide)
      have eA : awQ num ad (l.getD 0 0 - 1) (gk V 272 0) (gQ V (40 * p + i)) = (decide (vI V 198 (40 * p + i) = num) && decide (vI V 199 (40 * p + i) = ad) && decide (vI V 201 (40 * p + i) = l.getD 0 0 - 1) && decide (gk V 200 (5 * (40 * p + i)) = gk V 272 0)) := rfl
      have l271 : l2 271 460 0 V = some (l.getD 0 0) := by rw [l2_e (j := 0) (by decide) (by decide), g0.1]
      unfold b_X16_awaited_5 j_X16_awaited_85
      rw [c40m, cadd40, w32_nn (by omega), w32_nn (by omega), if_pos (by omega), hn, l271, eA]
      simp (disch := omega) only [l2_n, Option.bind_some, w32_vI, hwn, had, c5m]
      rw [show f_X16_same 200 ((5 * (40 * p + i) : Nat) : Int) 272 0 V = _ from sm, Option.bind_some, w32_b2i, w32_id (show -2147483648 ≤ l.getD 0 0 - 1 by omega) (by omega)]
      by_cases c0 : vI V 197 (40 * p + i) = 0
      · rw [if_pos c0]; simp [c0]; rfl
      · rw [if_neg c0]
        by_cases c1 : vI V 198 (40 * p + i) = num
        · rw [if_pos c1]
          by_cases c2 : vI V 199 (40 * p + i) = ad
          · rw [if_pos c2]
            by_cases c3 : vI V 201 (40 * p + i) = l.getD 0 0 - 1
            · rw [if_pos c3]
              by_cases c4 : gk V 200 (5 * (40 * p + i)) = gk V 272 0
              · rw [decide_eq_true c4, if_neg (by decide), decide_eq_true c0, decide_eq_true c1, decide_eq_true c2, decide_eq_true c3]; rfl
              · rw [decide_eq_false c4, if_pos (by decide)]; simp; rfl
            · rw [if_neg c3, decide_eq_false c3]; simp; rfl
          · rw [if_neg c2, decide_eq_false c2]; simp; rfl
        · rw [if_neg c1, decide_eq_false c1]; simp; rfl)
    (by
      show b_X16_awaited_5 (p : Int) ad ((40 * p + 40 : Nat) : Int) V = _
      unfold b_X16_awaited_5
      rw [c40m, cadd40, if_neg (by omega)]) FU (by unfold FU; omega)
  have hf0 : f_X16_awaited (p : Int) ad V = lpN (fun s' : Int => b_X16_awaited_5 (p : Int) ad s' V) FU ((40 * p + 0 : Nat) : Int) := by
    unfold f_X16_awaited l_X16_awaited_5
    rw [c40m]
    rfl
  rcases fnd0 with ⟨i, hi, hc, -, ef⟩ | ⟨hc, ef⟩
  · rw [Bool.and_eq_true] at hc
    exact Or.inl ⟨40 * p + i, slQ_mem.mpr ⟨by omega, by simpa using hc.1⟩, by rw [hf0]; exact ef, hc.2⟩
  · refine Or.inr ⟨by rw [hf0]; exact ef, fun y hy => ?_⟩
    obtain ⟨r, hr, rfl⟩ := rq_row h hy
    have hm := slQ_mem.mp hr
    have := hc (r - 40 * p) (by omega)
    rw [show 40 * p + (r - 40 * p) = r by omega, decide_eq_true hm.2, Bool.true_and] at this
    exact this
theorem v_rmq (h : RqsV V Rs nxs) (hp : p < 32) (hs : s ∈ slQ V p) : s2z 197 1280 (s : Int) 0 V = some (st2 V 197 s 0) ∧ RqsV (st2 V 197 s 0) (fup Rs p (rmQ (Rs p) (qNum (gQ V s)))) nxs := by
  have hm := slQ_mem.mp hs
  refine ⟨s2z_n (by omega) (by decide) (Or.inl rfl), fun z hz => ?_⟩
  have g : ∀ r, gQ (st2 V 197 s 0) r = gQ V r := fun r => gQ_ext (fun a h1 h2 _ => vI_ne (by omega)) (gk_st2 (by decide)) (fun i _ => vI_ne (by omega)) (fun t => vI_ne (by omega))
  by_cases c : z = p
  · subst c
    rw [fup_eq]
    exact rq_del (h z hz) hs (vI_ne (by omega)) (by rw [vI_eq rfl]; rfl) (fun r _ _ => ⟨fun hr => vI_ne (by omega), g r, vI_ne (by omega), vI_ne (by omega), vI_ne (by omega)⟩) (fun t _ => vI_ne (by omega))
  · rw [fup_ne c]
    exact rq_ag (h z hz) (vI_ne (by omega)) (fun r _ _ => ⟨vI_ne (by omega), fun _ => ⟨g r, vI_ne (by omega), vI_ne (by omega), vI_ne (by omega)⟩⟩) (fun t _ => vI_ne (by omega))
end VPRB
