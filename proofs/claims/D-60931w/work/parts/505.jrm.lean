/-! a request is gone, both sides -/
section JRM
variable {S : Nat → Bool} {M M1 : MM} {V W : VV} {m al N p t nb oth Z L k i s : Nat} {pa tk : Nat → Nat} {own : Nat → Ky} {sd ps sn pu rf : Nat → Int} {tm ad : Int} {lf : Nat → Nat} {b0 : Nat × Nat} {h h' : Gh} {eg : EG} {pb as : Nat → Option Nat} {mn sto : Nat → Int} {fa : Nat → Nat} {Y : Ys} {Lb : Nat → List Trm} {LA : Nat → List Nat} {dn : Nat → Int} {ev tn : Nat → Nat} {w : Wd} {KL : List Ky} {y : Rq} {Q : List Rq} {q : Nat}
def rmW (w : Wd) (p i : Nat) : Wd := setQ w (fup (wQ w) p ((wQ w p).eraseIdx i))
theorem rm_mem {x : Rq} (h : x ∈ wQ (rmW w p i) q) : x ∈ wQ w q := by
  have h : x ∈ fup (wQ w) p ((wQ w p).eraseIdx i) q := h
  by_cases c : q = p
  · rw [c, fup_eq] at h; rw [c]; exact List.mem_of_mem_eraseIdx h
  · rw [fup_ne c] at h; exact h
theorem er_split (hi : i < Q.length) : Q = Q.take i ++ Q.getD i q0 :: Q.drop (i + 1) ∧ Q.eraseIdx i = Q.take i ++ Q.drop (i + 1) := by
  refine ⟨?_, List.eraseIdx_eq_take_drop_succ ..⟩
  rw [gd_get hi, ← List.drop_eq_getElem_cons hi, List.take_append_drop]
theorem rqv_rm (hi : i < (wQ w p).length) (hy : qWrk ((wQ w p).getD i q0) ≠ some t) : rqv t (wQ (rmW w p i) q) = rqv t (wQ w q) := by
  show rqv t (fup (wQ w) p ((wQ w p).eraseIdx i) q) = _
  by_cases c : q = p
  · rw [c, fup_eq]
    obtain ⟨e1, e2⟩ := er_split hi
    unfold rqv
    rw [e2]
    conv => rhs; rw [e1]
    rw [List.filter_append, List.filter_append, List.filter_cons, if_neg (by rw [decide_eq_false hy]; decide)]
  · rw [fup_ne c]
theorem cnA_rm (hi : i < (wQ w p).length) (hy : qWrk ((wQ w p).getD i q0) = some t) : cnA p t (rmW w p i) + 1 = cnA p t w := by
  unfold cnA
  rw [show wQ (rmW w p i) p = (wQ w p).eraseIdx i from fup_eq]
  obtain ⟨e1, e2⟩ := er_split hi
  rw [e2]
  conv => rhs; rw [e1]
  rw [List.countP_append, List.countP_append, List.countP_cons, if_pos (by rw [decide_eq_true hy])]
  omega
theorem ok_rm (h : okW N own tm w) : okW N own tm (rmW w p i) := by
  obtain ⟨h1, h2, h3, h4⟩ := h
  refine ⟨h1, h2, h3, fun q hq => ?_⟩
  obtain ⟨a1, a2, a3, a4, a5, a6⟩ := h4 q hq
  refine ⟨a1, a2, a3, a4, ?_, fun y hy => a6 y (rm_mem hy)⟩
  show (fup (wQ w) p ((wQ w p).eraseIdx i) q).Pairwise _
  by_cases c : q = p
  · rw [c, fup_eq]; rw [c] at a5; exact a5.sublist (List.eraseIdx_sublist ..)
  · rw [fup_ne c]; exact a5
theorem ev_rm (h : EvI N ev w) (hi : i < (wQ w p).length) : EvI N (fup ev p (ev p + 1)) (rmW w p i) := fun q hq => by
  obtain ⟨a1, a2, a3⟩ := h q hq
  show 0 < wnx w q ∧ wnx w q ≤ 1 + (fup (wQ w) p ((wQ w p).eraseIdx i) q).length + fup ev p (ev p + 1) q ∧ (fup (wQ w) p ((wQ w p).eraseIdx i) q).length ≤ 40
  by_cases c : q = p
  · subst c
    rw [fup_eq, fup_eq, List.length_eraseIdx_of_lt hi]; omega
  · rw [fup_ne c, fup_ne c]; exact ⟨a1, a2, a3⟩
theorem PI_rm {T0 : Nat → List Row} (h : PI KL tm T0 k w) : PI KL tm T0 k (rmW w p i) := ⟨h.1, h.2.1, h.2.2.1, fun q y hy => h.2.2.2.1 q y (rm_mem hy), h.2.2.2.2⟩
/-- a request is taken away -/
theorem j_rm (hJ : JX M V m al N pa own sd ps sn pu rf tm tk pb as nb Lb LA dn KL k h lf b0 eg mn sto fa Z ev oth tn Y) (hN : 12 + N ≤ 44) (hp : p < N) (hi : i < (wQ (yw Y) p).length) (hy : y = (wQ (yw Y) p).getD i q0) (hs : s ∈ slQ V p) (hsy : gQ V s = y) :
    ∃ M1 h1 r B, f_X17_remove ((pa p : Nat) : Int) (i : Int) M = some (((r : Nat) : Int), M1) ∧ s2z 197 1280 (s : Int) 0 V = some (st2 V 197 s 0) ∧ isRq M1 r ∧ RqC M1 N pa B lf r y ∧ FK (fun z => z == 2 || z == 5) M M1 ∧ CW M1 m al N pa own sd ps sn pu rf tm lf b0 eg tk pb as nb mn fa Lb LA dn sto (setW Y (rmW (yw Y) p i)) h1 ∧ VY (st2 V 197 s 0) m al N own sd ps sn pu rf tm Lb oth Z (fup ev p (ev p + 1)) tn (setW Y (rmW (yw Y) p i)) ∧ (∀ t, t < 44 → qWrk y ≠ some t → wE N own Lb (setW Y (rmW (yw Y) p i)) t) ∧ PI KL tm (wT (yw Y)) k (rmW (yw Y) p i) ∧ ∀ t, t < 44 → qWrk y = some t → rmR t Y (setW Y (rmW (yw Y) p i)) ∧ yv Y 226 t = 1 ∧ p = yp Y t ∧ qTyp y = tyS Y t := by
  obtain ⟨j1, j2, j3, j4, j5, j6, j7⟩ := id hJ
  have hC := j1.1.1.1
  obtain ⟨L, hP, hL⟩ := j2.1
  obtain ⟨M1, h1, a1, a2, a3, a4, a5⟩ := cp_remove (i := i) hC hp hi
  obtain ⟨b1, b2⟩ := vp_rm hP j2.2.1 hp hi hs (by rw [hsy]; exact hy)
  have f := a5 (fun z => z == 2 || z == 5) rfl rfl
  rw [← hy] at a4
  have ym : y ∈ wQ (yw Y) p := by rw [hy]; exact getD_mem hi
  refine ⟨M1, h1, _, _, a1, b1, a3, a4, f, CW_w j1 (wE_h3 hN j3) a2 f (by decide), vy_w j2 (FrV.mono (FrV_st (S := fun z => z == 5) rfl) G5_5) b2 hL (ok_rm j2.2.1) (ev_rm j2.2.2.1 hi), fun t ht hw => wE_w (j3 t ht) (fun q => rqv_rm hi (by rw [← hy]; exact hw)), PI_rm j5, fun t ht hw => ?_⟩
  obtain ⟨c1, c2, c3⟩ := (j3 t ht).1.2.1 p y ym hw
  refine ⟨⟨rfl, rfl, rfl, ?_, fun q x hx hxw => ?_⟩, c1, c2, c3⟩
  · rw [← c2]; exact cnA_rm hi (by rw [← hy]; exact hw)
  · obtain ⟨_, d2, d3⟩ := (j3 t ht).1.2.1 q x (rm_mem hx) hxw
    exact ⟨d2, d3⟩
end JRM
