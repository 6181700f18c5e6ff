set_option maxRecDepth 100000
/-! PeerSearch$Key.set(LPeerSearch$Key;)V -/
theorem dX3_set_0 : decode cX3_set 0 = .ok (.iconst 0, 1) := by decide +kernel
theorem dX3_set_1 : decode cX3_set 1 = .ok (.istore_n 2, 1) := by decide +kernel
theorem dX3_set_2 : decode cX3_set 2 = .ok (.iload_n 2, 1) := by decide +kernel
theorem dX3_set_3 : decode cX3_set 3 = .ok (.iconst 5, 1) := by decide +kernel
theorem dX3_set_4 : decode cX3_set 4 = .ok (.if_icmp .ge 21, 3) := by decide +kernel
theorem dX3_set_7 : decode cX3_set 7 = .ok (.aload_n 0, 1) := by decide +kernel
theorem dX3_set_8 : decode cX3_set 8 = .ok (.getfield 9, 3) := by decide +kernel
theorem dX3_set_11 : decode cX3_set 11 = .ok (.iload_n 2, 1) := by decide +kernel
theorem dX3_set_12 : decode cX3_set 12 = .ok (.aload_n 1, 1) := by decide +kernel
theorem dX3_set_13 : decode cX3_set 13 = .ok (.getfield 9, 3) := by decide +kernel
theorem dX3_set_16 : decode cX3_set 16 = .ok (.iload_n 2, 1) := by decide +kernel
theorem dX3_set_17 : decode cX3_set 17 = .ok (.iaload, 1) := by decide +kernel
theorem dX3_set_18 : decode cX3_set 18 = .ok (.iastore, 1) := by decide +kernel
theorem dX3_set_19 : decode cX3_set 19 = .ok (.iinc 2 1, 3) := by decide +kernel
theorem dX3_set_22 : decode cX3_set 22 = .ok (.goto (-20), 3) := by decide +kernel
theorem dX3_set_25 : decode cX3_set 25 = .ok (.return_, 1) := by decide +kernel
def b_X3_set_2 (x0 x1 x2 : Int) (M : MM) : Option ((Int × MM) ⊕ (MM)) :=
  if w32 x2 < w32 5 then
    (gfr 3 0 x0 M).bind fun v1 =>
    (gfr 3 0 x1 M).bind fun v2 =>
    (lai v2 x2 M).bind fun v3 =>
    (sai v1 x2 v3 M).bind fun M1 =>
    cnt (x2 + 1, M1)
  else
    xit (some M)
def l_X3_set_2 (x0 x1 x2 : Int) (M : MM) : Option (MM) := lpN (fun s : Int × MM => b_X3_set_2 x0 x1 s.1 s.2) FU (x2, M)
def f_X3_set (x0 x1 : Int) (M : MM) : Option (MM) :=
  l_X3_set_2 x0 x1 0 M
theorem s_X3_set_2 {g : GG} {d : Nat} (hD : 0 ≤ d) {x0 x1 x2 : Int} {M : MM} {o : AV × MM} {P : ((Int × MM) ⊕ (MM)) → Prop} (c0 : ∀ s : Int × MM, P (.inl s) → Sem g d YX3_set 2 [(1, x0), (1, x1), (0, s.1)] [] s.2 o) (r0 : ∀ r : MM, P (.inr r) → o = ((9, 0), r)) {z : (Int × MM) ⊕ (MM)} (h : b_X3_set_2 x0 x1 x2 M = some z) (hz : P z) : Sem g d YX3_set 2 [(1, x0), (1, x1), (0, x2)] [] M o := by
  delta b_X3_set_2 at h
  refine S_iload_n (i := 2) dX3_set_2 rfl rfl ?_
  refine S_iconst dX3_set_3 rfl ?_
  refine P_icmp_ge (tgt := 25) dX3_set_4 rfl h (fun h => ?_) (fun h => ?_)
  · obtain ⟨z0, h, hz⟩ := xit_some' (P := fun r => P r) h hz
    obtain rfl := r0 _ (some_P (P := fun r => P (.inr r)) h hz)
    exact S_return dX3_set_25 rfl
  · refine S_aload_n (i := 0) dX3_set_7 rfl rfl ?_
    refine P_gfr FLX3_9 rfl dX3_set_8 h (fun v1 h => ?_)
    refine S_iload_n (i := 2) dX3_set_11 rfl rfl ?_
    refine S_aload_n (i := 1) dX3_set_12 rfl rfl ?_
    refine P_gfr FLX3_9 rfl dX3_set_13 h (fun v2 h => ?_)
    refine S_iload_n (i := 2) dX3_set_16 rfl rfl ?_
    refine P_lai dX3_set_17 h (fun v3 h => ?_)
    refine P_sai dX3_set_18 h (fun M1 h => ?_)
    refine S_iinc dX3_set_19 rfl rfl rfl ?_
    change Sem g d YX3_set 22 [(1, x0), (1, x1), (0, x2 + 1)] [] M1 o
    refine S_goto (tgt := 2) dX3_set_22 rfl ?_
    exact c0 (x2 + 1, M1) (some_P (P := fun r => P r) h hz)
theorem sl_X3_set_2 {g : GG} {d : Nat} (hD : 0 ≤ d) {x0 x1 x2 : Int} {M : MM} {o : AV × MM} {P : (MM) → Prop} (r0 : ∀ r : MM, P r → o = ((9, 0), r)) {z : MM} (h : l_X3_set_2 x0 x1 x2 M = some z) (hz : P z) : Sem g d YX3_set 2 [(1, x0), (1, x1), (0, x2)] [] M o := by
  refine lp_sound (S := fun s : Int × MM => Sem g d YX3_set 2 [(1, x0), (1, x1), (0, s.1)] [] s.2 o) (P := P) ?_ FU (x2, M) z h hz
  intro s x hx hP
  exact s_X3_set_2 hD (P := Sum.elim (fun s : Int × MM => Sem g d YX3_set 2 [(1, x0), (1, x1), (0, s.1)] [] s.2 o) P) (fun s h => h) (fun s h => r0 s h) hx hP
theorem s_X3_set_0 {g : GG} {d : Nat} (hD : 0 ≤ d) {x0 x1 : Int} {M : MM} {o : AV × MM} {P : (MM) → Prop} (r0 : ∀ r : MM, P r → o = ((9, 0), r)) {z : MM} (h : f_X3_set x0 x1 M = some z) (hz : P z) : Sem g d YX3_set 0 [(1, x0), (1, x1), (9, 0)] [] M o := by
  delta f_X3_set at h
  refine S_iconst dX3_set_0 rfl ?_
  refine S_istore_n (i := 2) dX3_set_1 rfl (Nat.le_of_ble_eq_true rfl) rfl rfl ?_
  change Sem g d YX3_set 2 [(1, x0), (1, x1), (0, 0)] [] M o
  exact sl_X3_set_2 hD r0 h hz
theorem F_X3_set {g : GG} {d : Nat} (hD : 0 ≤ d) {x0 x1 : Int} {M : MM} {r : MM} (h : f_X3_set x0 x1 M = some r) : Sem g d YX3_set 0 (ini YX3_set [(1, x0), (1, x1)]) [] M ((9, 0), r) := by
  change Sem g d YX3_set 0 [(1, x0), (1, x1), (9, 0)] [] M ((9, 0), r)
  exact s_X3_set_0 hD (P := fun x => x = r) (fun q e => by rw [e]) h rfl
/-! PeerSearch$Key.is(LPeerSearch$Key;)Z -/
theorem dX3_is_0 : decode cX3_is 0 = .ok (.aload_n 0, 1) := by decide +kernel
theorem dX3_is_1 : decode cX3_is 1 = .ok (.aload_n 1, 1) := by decide +kernel
theorem dX3_is_2 : decode cX3_is 2 = .ok (.invokevirtual 13, 3) := by decide +kernel
theorem dX3_is_5 : decode cX3_is 5 = .ok (.sipush 160, 3) := by decide +kernel
theorem dX3_is_8 : decode cX3_is 8 = .ok (.if_icmp .ne 7, 3) := by decide +kernel
theorem dX3_is_11 : decode cX3_is 11 = .ok (.iconst 1, 1) := by decide +kernel
theorem dX3_is_12 : decode cX3_is 12 = .ok (.goto 4, 3) := by decide +kernel
theorem dX3_is_15 : decode cX3_is 15 = .ok (.iconst 0, 1) := by decide +kernel
theorem dX3_is_16 : decode cX3_is 16 = .ok (.ireturn, 1) := by decide +kernel
def j_X3_is_16 (y0 : Int) (M : MM) : Option (Int) :=
  bz y0 (some y0)
def f_X3_is (x0 x1 : Int) (M : MM) : Option (Int) :=
  ck 3 x0 M <| (f_X3_common x0 x1 M).bind fun v1 =>
  if w32 v1 = w32 160 then
    j_X3_is_16 1 M
  else
    j_X3_is_16 0 M
theorem s_X3_is_16 {g : GG} {d : Nat} (hD : 2 ≤ d) {y0 : Int} {M : MM} {o : AV × MM} {P : (Int) → Prop} (r0 : ∀ r : Int, P r → o = ((0, r), M)) {z : Int} (h : j_X3_is_16 y0 M = some z) (hz : P z) : Sem g d YX3_is 16 [(9, 0), (9, 0)] [(0, y0)] M o := by
  delta j_X3_is_16 at h
  obtain ⟨hb, h⟩ := bz_some h
  obtain rfl := r0 _ (some_P (P := fun r => P r) h hz)
  exact P_ret dX3_is_16 rfl (Or.inr ⟨rfl, hb⟩)
theorem s_X3_is_0 {g : GG} {d : Nat} (hD : 2 ≤ d) {x0 x1 : Int} {M : MM} {o : AV × MM} {P : (Int) → Prop} (r0 : ∀ r : Int, P r → o = ((0, r), M)) {z : Int} (h : f_X3_is x0 x1 M = some z) (hz : P z) : Sem g d YX3_is 0 [(1, x0), (1, x1)] [] M o := by
  delta f_X3_is at h
  refine S_aload_n (i := 0) dX3_is_0 rfl rfl ?_
  refine S_aload_n (i := 1) dX3_is_1 rfl rfl ?_
  refine P_invVp 0 [(1, x1)] [] CVX3_common MLX3_13 dX3_is_2 rfl rfl rfl rfl rfl (by omega) h (fun r h => F_X3_common (by omega) h) (fun v1 h => ?_)
  refine S_sipush (z := 160) dX3_is_5 rfl ?_
  refine P_icmp_ne (tgt := 15) dX3_is_8 rfl h (fun h => ?_) (fun h => ?_)
  · refine S_iconst dX3_is_15 rfl ?_
    refine S_weak (ls' := [(9, 0), (9, 0)]) ⟨Or.inl rfl, ⟨Or.inl rfl, trivial⟩⟩ ?_
    exact s_X3_is_16 hD r0 h hz
  · refine S_iconst dX3_is_11 rfl ?_
    refine S_goto (tgt := 16) dX3_is_12 rfl ?_
    refine S_weak (ls' := [(9, 0), (9, 0)]) ⟨Or.inl rfl, ⟨Or.inl rfl, trivial⟩⟩ ?_
    exact s_X3_is_16 hD r0 h hz
theorem F_X3_is {g : GG} {d : Nat} (hD : 2 ≤ d) {x0 x1 : Int} {M : MM} {r : Int} (h : f_X3_is x0 x1 M = some r) : Sem g d YX3_is 0 (ini YX3_is [(1, x0), (1, x1)]) [] M ((0, r), M) := by
  change Sem g d YX3_is 0 [(1, x0), (1, x1)] [] M ((0, r), M)
  exact s_X3_is_0 hD (P := fun x => x = r) (fun q e => by rw [e]) h rfl
/-! PeerSearch$Lookup.find(LPeerSearch$Key;)LPeerSearch$Entry; -/
theorem dX15_find_0 : decode cX15_find 0 = .ok (.iconst 0, 1) := by decide +kernel
theorem dX15_find_1 : decode cX15_find 1 = .ok (.istore_n 2, 1) := by decide +kernel
theorem dX15_find_2 : decode cX15_find 2 = .ok (.iload_n 2, 1) := by decide +kernel
theorem dX15_find_3 : decode cX15_find 3 = .ok (.aload_n 0, 1) := by decide +kernel
theorem dX15_find_4 : decode cX15_find 4 = .ok (.getfield 36, 3) := by decide +kernel
theorem dX15_find_7 : decode cX15_find 7 = .ok (.if_icmp .ge 32, 3) := by decide +kernel
theorem dX15_find_10 : decode cX15_find 10 = .ok (.aload_n 0, 1) := by decide +kernel
theorem dX15_find_11 : decode cX15_find 11 = .ok (.getfield 11, 3) := by decide +kernel
theorem dX15_find_14 : decode cX15_find 14 = .ok (.iload_n 2, 1) := by decide +kernel
theorem dX15_find_15 : decode cX15_find 15 = .ok (.aaload, 1) := by decide +kernel
theorem dX15_find_16 : decode cX15_find 16 = .ok (.getfield 42, 3) := by decide +kernel
theorem dX15_find_19 : decode cX15_find 19 = .ok (.aload_n 1, 1) := by decide +kernel
theorem dX15_find_20 : decode cX15_find 20 = .ok (.invokevirtual 45, 3) := by decide +kernel
theorem dX15_find_23 : decode cX15_find 23 = .ok (.ifCond .eq 10, 3) := by decide +kernel
theorem dX15_find_26 : decode cX15_find 26 = .ok (.aload_n 0, 1) := by decide +kernel
theorem dX15_find_27 : decode cX15_find 27 = .ok (.getfield 11, 3) := by decide +kernel
theorem dX15_find_30 : decode cX15_find 30 = .ok (.iload_n 2, 1) := by decide +kernel
theorem dX15_find_31 : decode cX15_find 31 = .ok (.aaload, 1) := by decide +kernel
theorem dX15_find_32 : decode cX15_find 32 = .ok (.areturn, 1) := by decide +kernel
theorem dX15_find_33 : decode cX15_find 33 = .ok (.iinc 2 1, 3) := by decide +kernel
theorem dX15_find_36 : decode cX15_find 36 = .ok (.goto (-34), 3) := by decide +kernel
theorem dX15_find_39 : decode cX15_find 39 = .ok (.aconst_null, 1) := by decide +kernel
theorem dX15_find_40 : decode cX15_find 40 = .ok (.areturn, 1) := by decide +kernel
def j_X15_find_26 (x0 x2 : Int) (M : MM) : Option (Int) :=
  (gfr 15 0 x0 M).bind fun v1 =>
  (lar 8 v1 x2 M).bind fun v2 =>
  some v2
def b_X15_find_2 (x0 x1 x2 : Int) (M : MM) : Option ((Int) ⊕ (Int)) :=
  (gfi 15 3 x0 M).bind fun v1 =>
  if w32 x2 < w32 v1 then
    (gfr 15 0 x0 M).bind fun v2 =>
    (lar 8 v2 x2 M).bind fun v3 =>
    (gfr 27 0 v3 M).bind fun v4 =>
    ck 3 v4 M <| (f_X3_is v4 x1 M).bind fun v5 =>
    if w32 v5 = 0 then
      cnt (x2 + 1)
    else
      xit (j_X15_find_26 x0 x2 M)
  else
    xit (some (-1))
def l_X15_find_2 (x0 x1 x2 : Int) (M : MM) : Option (Int) := lpN (fun s : Int => b_X15_find_2 x0 x1 s M) FU x2
def f_X15_find (x0 x1 : Int) (M : MM) : Option (Int) :=
  l_X15_find_2 x0 x1 0 M
theorem s_X15_find_26 {g : GG} {d : Nat} (hD : 3 ≤ d) {x0 x2 : Int} {M : MM} {o : AV × MM} {P : (Int) → Prop} (r0 : ∀ r : Int, P r → o = ((1, r), M)) {z : Int} (h : j_X15_find_26 x0 x2 M = some z) (hz : P z) : Sem g d YX15_find 26 [(1, x0), (9, 0), (0, x2)] [] M o := by
  delta j_X15_find_26 at h
  refine S_aload_n (i := 0) dX15_find_26 rfl rfl ?_
  refine P_gfr FLX15_11 rfl dX15_find_27 h (fun v1 h => ?_)
  refine S_iload_n (i := 2) dX15_find_30 rfl rfl ?_
  refine P_lar (t := 8) ⟨by decide, by decide⟩ dX15_find_31 h (fun v2 h => ?_)
  obtain rfl := r0 _ (some_P (P := fun r => P r) h hz)
  exact S_areturn dX15_find_32 ⟨_, rfl, Or.inl ⟨_, rfl⟩⟩
theorem s_X15_find_2 {g : GG} {d : Nat} (hD : 3 ≤ d) {x0 x1 x2 : Int} {M : MM} {o : AV × MM} {P : ((Int) ⊕ (Int)) → Prop} (c0 : ∀ s : Int, P (.inl s) → Sem g d YX15_find 2 [(1, x0), (1, x1), (0, s)] [] M o) (r0 : ∀ r : Int, P (.inr r) → o = ((1, r), M)) {z : (Int) ⊕ (Int)} (h : b_X15_find_2 x0 x1 x2 M = some z) (hz : P z) : Sem g d YX15_find 2 [(1, x0), (1, x1), (0, x2)] [] M o := by
  delta b_X15_find_2 at h
  refine S_iload_n (i := 2) dX15_find_2 rfl rfl ?_
  refine S_aload_n (i := 0) dX15_find_3 rfl rfl ?_
  refine P_gfi FLX15_36 rfl dX15_find_4 h (fun v1 h => ?_)
  refine P_icmp_ge (tgt := 39) dX15_find_7 rfl h (fun h => ?_) (fun h => ?_)
  · obtain ⟨z0, h, hz⟩ := xit_some' (P := fun r => P r) h hz
    refine S_null dX15_find_39 ?_
    obtain rfl := r0 _ (some_P (P := fun r => P (.inr r)) h hz)
    exact S_areturn dX15_find_40 ⟨_, rfl, Or.inl ⟨_, rfl⟩⟩
  · refine S_aload_n (i := 0) dX15_find_10 rfl rfl ?_
    refine P_gfr FLX15_11 rfl dX15_find_11 h (fun v2 h => ?_)
    refine S_iload_n (i := 2) dX15_find_14 rfl rfl ?_
    refine P_lar (t := 8) ⟨by decide, by decide⟩ dX15_find_15 h (fun v3 h => ?_)
    refine P_gfr FLX15_42 rfl dX15_find_16 h (fun v4 h => ?_)
    refine S_aload_n (i := 1) dX15_find_19 rfl rfl ?_
    refine P_invVp 0 [(1, x1)] [] CVX3_is MLX15_45 dX15_find_20 rfl rfl rfl rfl rfl (by omega) h (fun r h => F_X3_is (by omega) h) (fun v5 h => ?_)
    refine P_if_eq (tgt := 33) dX15_find_23 rfl h (fun h => ?_) (fun h => ?_)
    · refine S_iinc dX15_find_33 rfl rfl rfl ?_
      change Sem g d YX15_find 36 [(1, x0), (1, x1), (0, x2 + 1)] [] M o
      refine S_goto (tgt := 2) dX15_find_36 rfl ?_
      exact c0 (x2 + 1) (some_P (P := fun r => P r) h hz)
    · refine S_weak (ls' := [(1, x0), (9, 0), (0, x2)]) ⟨Or.inr rfl, ⟨Or.inl rfl, ⟨Or.inr rfl, trivial⟩⟩⟩ ?_
      obtain ⟨z0, h, hz⟩ := xit_some' (P := fun r => P r) h hz
      exact s_X15_find_26 hD (P := fun r => P (.inr r)) r0 h hz
theorem sl_X15_find_2 {g : GG} {d : Nat} (hD : 3 ≤ d) {x0 x1 x2 : Int} {M : MM} {o : AV × MM} {P : (Int) → Prop} (r0 : ∀ r : Int, P r → o = ((1, r), M)) {z : Int} (h : l_X15_find_2 x0 x1 x2 M = some z) (hz : P z) : Sem g d YX15_find 2 [(1, x0), (1, x1), (0, x2)] [] M o := by
  refine lp_sound (S := fun s : Int => Sem g d YX15_find 2 [(1, x0), (1, x1), (0, s)] [] M o) (P := P) ?_ FU x2 z h hz
  intro s x hx hP
  exact s_X15_find_2 hD (P := Sum.elim (fun s : Int => Sem g d YX15_find 2 [(1, x0), (1, x1), (0, s)] [] M o) P) (fun s h => h) (fun s h => r0 s h) hx hP
theorem s_X15_find_0 {g : GG} {d : Nat} (hD : 3 ≤ d) {x0 x1 : Int} {M : MM} {o : AV × MM} {P : (Int) → Prop} (r0 : ∀ r : Int, P r → o = ((1, r), M)) {z : Int} (h : f_X15_find x0 x1 M = some z) (hz : P z) : Sem g d YX15_find 0 [(1, x0), (1, x1), (9, 0)] [] M o := by
  delta f_X15_find at h
  refine S_iconst dX15_find_0 rfl ?_
  refine S_istore_n (i := 2) dX15_find_1 rfl (Nat.le_of_ble_eq_true rfl) rfl rfl ?_
  change Sem g d YX15_find 2 [(1, x0), (1, x1), (0, 0)] [] M o
  exact sl_X15_find_2 hD r0 h hz
theorem F_X15_find {g : GG} {d : Nat} (hD : 3 ≤ d) {x0 x1 : Int} {M : MM} {r : Int} (h : f_X15_find x0 x1 M = some r) : Sem g d YX15_find 0 (ini YX15_find [(1, x0), (1, x1)]) [] M ((1, r), M) := by
  change Sem g d YX15_find 0 [(1, x0), (1, x1), (9, 0)] [] M ((1, r), M)
  exact s_X15_find_0 hD (P := fun x => x = r) (fun q e => by rw [e]) h rfl
/-! PeerSearch$Lookup.add(LPeerSearch$Key;II)V -/
theorem dX15_add_0 : decode cX15_add 0 = .ok (.aload_n 0, 1) := by decide +kernel
theorem dX15_add_1 : decode cX15_add 1 = .ok (.aload_n 1, 1) := by decide +kernel
theorem dX15_add_2 : decode cX15_add 2 = .ok (.invokevirtual 49, 3) := by decide +kernel
theorem dX15_add_5 : decode cX15_add 5 = .ok (.ifnull 4, 3) := by decide +kernel
theorem dX15_add_8 : decode cX15_add 8 = .ok (.return_, 1) := by decide +kernel
theorem dX15_add_9 : decode cX15_add 9 = .ok (.aload_n 0, 1) := by decide +kernel
theorem dX15_add_10 : decode cX15_add 10 = .ok (.getfield 11, 3) := by decide +kernel
theorem dX15_add_13 : decode cX15_add 13 = .ok (.aload_n 0, 1) := by decide +kernel
theorem dX15_add_14 : decode cX15_add 14 = .ok (.getfield 36, 3) := by decide +kernel
theorem dX15_add_17 : decode cX15_add 17 = .ok (.aaload, 1) := by decide +kernel
theorem dX15_add_18 : decode cX15_add 18 = .ok (.ifnonnull 19, 3) := by decide +kernel
theorem dX15_add_21 : decode cX15_add 21 = .ok (.aload_n 0, 1) := by decide +kernel
theorem dX15_add_22 : decode cX15_add 22 = .ok (.getfield 11, 3) := by decide +kernel
theorem dX15_add_25 : decode cX15_add 25 = .ok (.aload_n 0, 1) := by decide +kernel
theorem dX15_add_26 : decode cX15_add 26 = .ok (.getfield 36, 3) := by decide +kernel
theorem dX15_add_29 : decode cX15_add 29 = .ok (.new 9, 3) := by decide +kernel
theorem dX15_add_32 : decode cX15_add 32 = .ok (.dup, 1) := by decide +kernel
theorem dX15_add_33 : decode cX15_add 33 = .ok (.invokespecial 53, 3) := by decide +kernel
theorem dX15_add_36 : decode cX15_add 36 = .ok (.aastore, 1) := by decide +kernel
theorem dX15_add_37 : decode cX15_add 37 = .ok (.aload_n 0, 1) := by decide +kernel
theorem dX15_add_38 : decode cX15_add 38 = .ok (.getfield 11, 3) := by decide +kernel
theorem dX15_add_41 : decode cX15_add 41 = .ok (.aload_n 0, 1) := by decide +kernel
theorem dX15_add_42 : decode cX15_add 42 = .ok (.getfield 36, 3) := by decide +kernel
theorem dX15_add_45 : decode cX15_add 45 = .ok (.aaload, 1) := by decide +kernel
theorem dX15_add_46 : decode cX15_add 46 = .ok (.astore 4, 2) := by decide +kernel
theorem dX15_add_48 : decode cX15_add 48 = .ok (.aload 4, 2) := by decide +kernel
theorem dX15_add_50 : decode cX15_add 50 = .ok (.getfield 42, 3) := by decide +kernel
theorem dX15_add_53 : decode cX15_add 53 = .ok (.aload_n 1, 1) := by decide +kernel
theorem dX15_add_54 : decode cX15_add 54 = .ok (.invokevirtual 28, 3) := by decide +kernel
theorem dX15_add_57 : decode cX15_add 57 = .ok (.aload 4, 2) := by decide +kernel
theorem dX15_add_59 : decode cX15_add 59 = .ok (.iload_n 2, 1) := by decide +kernel
theorem dX15_add_60 : decode cX15_add 60 = .ok (.putfield 54, 3) := by decide +kernel
theorem dX15_add_63 : decode cX15_add 63 = .ok (.aload 4, 2) := by decide +kernel
theorem dX15_add_65 : decode cX15_add 65 = .ok (.iload_n 3, 1) := by decide +kernel
theorem dX15_add_66 : decode cX15_add 66 = .ok (.putfield 57, 3) := by decide +kernel
theorem dX15_add_69 : decode cX15_add 69 = .ok (.aload 4, 2) := by decide +kernel
theorem dX15_add_71 : decode cX15_add 71 = .ok (.iconst 0, 1) := by decide +kernel
theorem dX15_add_72 : decode cX15_add 72 = .ok (.putfield 60, 3) := by decide +kernel
theorem dX15_add_75 : decode cX15_add 75 = .ok (.aload_n 0, 1) := by decide +kernel
theorem dX15_add_76 : decode cX15_add 76 = .ok (.getfield 36, 3) := by decide +kernel
theorem dX15_add_79 : decode cX15_add 79 = .ok (.istore 5, 2) := by decide +kernel
theorem dX15_add_81 : decode cX15_add 81 = .ok (.iload 5, 2) := by decide +kernel
theorem dX15_add_83 : decode cX15_add 83 = .ok (.ifCond .le 48, 3) := by decide +kernel
theorem dX15_add_86 : decode cX15_add 86 = .ok (.aload_n 1, 1) := by decide +kernel
theorem dX15_add_87 : decode cX15_add 87 = .ok (.aload_n 0, 1) := by decide +kernel
theorem dX15_add_88 : decode cX15_add 88 = .ok (.getfield 11, 3) := by decide +kernel
theorem dX15_add_91 : decode cX15_add 91 = .ok (.iload 5, 2) := by decide +kernel
theorem dX15_add_93 : decode cX15_add 93 = .ok (.iconst 1, 1) := by decide +kernel
theorem dX15_add_94 : decode cX15_add 94 = .ok (.isub, 1) := by decide +kernel
theorem dX15_add_95 : decode cX15_add 95 = .ok (.aaload, 1) := by decide +kernel
theorem dX15_add_96 : decode cX15_add 96 = .ok (.getfield 42, 3) := by decide +kernel
theorem dX15_add_99 : decode cX15_add 99 = .ok (.aload_n 0, 1) := by decide +kernel
theorem dX15_add_100 : decode cX15_add 100 = .ok (.getfield 20, 3) := by decide +kernel
theorem dX15_add_103 : decode cX15_add 103 = .ok (.invokevirtual 63, 3) := by decide +kernel
theorem dX15_add_106 : decode cX15_add 106 = .ok (.ifCond .eq 25, 3) := by decide +kernel
theorem dX15_add_109 : decode cX15_add 109 = .ok (.aload_n 0, 1) := by decide +kernel
theorem dX15_add_110 : decode cX15_add 110 = .ok (.getfield 11, 3) := by decide +kernel
theorem dX15_add_113 : decode cX15_add 113 = .ok (.iload 5, 2) := by decide +kernel
theorem dX15_add_115 : decode cX15_add 115 = .ok (.aload_n 0, 1) := by decide +kernel
theorem dX15_add_116 : decode cX15_add 116 = .ok (.getfield 11, 3) := by decide +kernel
theorem dX15_add_119 : decode cX15_add 119 = .ok (.iload 5, 2) := by decide +kernel
theorem dX15_add_121 : decode cX15_add 121 = .ok (.iconst 1, 1) := by decide +kernel
theorem dX15_add_122 : decode cX15_add 122 = .ok (.isub, 1) := by decide +kernel
theorem dX15_add_123 : decode cX15_add 123 = .ok (.aaload, 1) := by decide +kernel
theorem dX15_add_124 : decode cX15_add 124 = .ok (.aastore, 1) := by decide +kernel
theorem dX15_add_125 : decode cX15_add 125 = .ok (.iinc 5 (-1), 3) := by decide +kernel
theorem dX15_add_128 : decode cX15_add 128 = .ok (.goto (-47), 3) := by decide +kernel
theorem dX15_add_131 : decode cX15_add 131 = .ok (.aload_n 0, 1) := by decide +kernel
theorem dX15_add_132 : decode cX15_add 132 = .ok (.getfield 11, 3) := by decide +kernel
theorem dX15_add_135 : decode cX15_add 135 = .ok (.iload 5, 2) := by decide +kernel
theorem dX15_add_137 : decode cX15_add 137 = .ok (.aload 4, 2) := by decide +kernel
theorem dX15_add_139 : decode cX15_add 139 = .ok (.aastore, 1) := by decide +kernel
theorem dX15_add_140 : decode cX15_add 140 = .ok (.aload_n 0, 1) := by decide +kernel
theorem dX15_add_141 : decode cX15_add 141 = .ok (.aload_n 0, 1) := by decide +kernel
theorem dX15_add_142 : decode cX15_add 142 = .ok (.getfield 36, 3) := by decide +kernel
theorem dX15_add_145 : decode cX15_add 145 = .ok (.iconst 1, 1) := by decide +kernel
theorem dX15_add_146 : decode cX15_add 146 = .ok (.iadd, 1) := by decide +kernel
theorem dX15_add_147 : decode cX15_add 147 = .ok (.bipush 64, 2) := by decide +kernel
theorem dX15_add_149 : decode cX15_add 149 = .ok (.invokestatic 67, 3) := by decide +kernel
theorem dX15_add_152 : decode cX15_add 152 = .ok (.putfield 36, 3) := by decide +kernel
theorem dX15_add_155 : decode cX15_add 155 = .ok (.return_, 1) := by decide +kernel
def j_X15_add_131 (x0 x4 x5 : Int) (M : MM) : Option (MM) :=
  (gfr 15 0 x0 M).bind fun v1 =>
  (sar 8 v1 x5 x4 M).bind fun M1 =>
  (gfi 15 3 x0 M1).bind fun v2 =>
  (pfi 15 3 x0 (jmin (v2 + 1) 64) M1).bind fun M2 =>
  some M2
def b_X15_add_81 (x0 x1 x4 x5 : Int) (M : MM) : Option ((Int × MM) ⊕ (MM)) :=
  if 0 < w32 x5 then
    (gfr 15 0 x0 M).bind fun v1 =>
    (lar 8 v1 (x5 - 1) M).bind fun v2 =>
    (gfr 27 0 v2 M).bind fun v3 =>
    (gfr 15 1 x0 M).bind fun v4 =>
    ck 3 x1 M <| (f_X3_isNearer x1 v3 v4 M).bind fun v5 =>
    if w32 v5 = 0 then
      xit (j_X15_add_131 x0 x4 x5 M)
    else
      (gfr 15 0 x0 M).bind fun v6 =>
      (gfr 15 0 x0 M).bind fun v7 =>
      (lar 8 v7 (x5 - 1) M).bind fun v8 =>
      (sar 8 v6 x5 v8 M).bind fun M1 =>
      cnt (x5 + (-1), M1)
  else
    xit (j_X15_add_131 x0 x4 x5 M)
def l_X15_add_81 (x0 x1 x4 x5 : Int) (M : MM) : Option (MM) := lpN (fun s : Int × MM => b_X15_add_81 x0 x1 x4 s.1 s.2) FU (x5, M)
def j_X15_add_37 (x0 x1 x2 x3 : Int) (M : MM) : Option (MM) :=
  (gfr 15 0 x0 M).bind fun v1 =>
  (gfi 15 3 x0 M).bind fun v2 =>
  (lar 8 v1 v2 M).bind fun v3 =>
  (gfr 27 0 v3 M).bind fun v4 =>
  ck 3 v4 M <| (f_X3_set v4 x1 M).bind fun M1 =>
  (pfi 27 1 v3 x2 M1).bind fun M2 =>
  (pfi 27 2 v3 x3 M2).bind fun M3 =>
  (pfi 27 3 v3 0 M3).bind fun M4 =>
  (gfi 15 3 x0 M4).bind fun v5 =>
  l_X15_add_81 x0 x1 v3 v5 M4
def f_X15_add (x0 x1 x2 x3 : Int) (M : MM) : Option (MM) :=
  ck 15 x0 M <| (f_X15_find x0 x1 M).bind fun v1 =>
  if v1 = -1 then
    (gfr 15 0 x0 M).bind fun v2 =>
    (gfi 15 3 x0 M).bind fun v3 =>
    (lar 8 v2 v3 M).bind fun v4 =>
    if v4 = -1 then
      (gfr 15 0 x0 M).bind fun v5 =>
      (gfi 15 3 x0 M).bind fun v6 =>
      (nob 27 4 31 M).bind fun r1 =>
      nn r1.1 <| (f_X27_init r1.1 r1.2).bind fun M1 =>
      (sar 8 v5 v6 r1.1 M1).bind fun M2 =>
      j_X15_add_37 x0 x1 x2 x3 M2
    else
      j_X15_add_37 x0 x1 x2 x3 M
  else
    some M
theorem s_X15_add_131 {g : GG} {d : Nat} (hD : 4 ≤ d) {x0 x4 x5 : Int} {M : MM} {o : AV × MM} {P : (MM) → Prop} (r0 : ∀ r : MM, P r → o = ((9, 0), r)) {z : MM} (h : j_X15_add_131 x0 x4 x5 M = some z) (hz : P z) : Sem g d YX15_add 131 [(1, x0), (9, 0), (9, 0), (9, 0), (1, x4), (0, x5)] [] M o := by
  delta j_X15_add_131 at h
  refine S_aload_n (i := 0) dX15_add_131 rfl rfl ?_
  refine P_gfr FLX15_11 rfl dX15_add_132 h (fun v1 h => ?_)
  refine S_iload dX15_add_135 rfl ?_
  refine S_aload dX15_add_137 rfl ?_
  refine P_sar (t := 8) ⟨by decide, by decide⟩ dX15_add_139 h (fun M1 h => ?_)
  refine S_aload_n (i := 0) dX15_add_140 rfl rfl ?_
  refine S_aload_n (i := 0) dX15_add_141 rfl rfl ?_
  refine P_gfi FLX15_36 rfl dX15_add_142 h (fun v2 h => ?_)
  refine S_iconst dX15_add_145 rfl ?_
  refine S_iadd dX15_add_146 ?_
  refine S_bipush (z := 64) dX15_add_147 rfl ?_
  refine S_min q1305 dX15_add_149 rfl (by omega) ?_
  refine P_pfi FLX15_36 FPX15_36 rfl dX15_add_152 h (fun M2 h => ?_)
  obtain rfl := r0 _ (some_P (P := fun r => P r) h hz)
  exact S_return dX15_add_155 rfl
theorem s_X15_add_81 {g : GG} {d : Nat} (hD : 4 ≤ d) {x0 x1 x4 x5 : Int} {M : MM} {o : AV × MM} {P : ((Int × MM) ⊕ (MM)) → Prop} (c0 : ∀ s : Int × MM, P (.inl s) → Sem g d YX15_add 81 [(1, x0), (1, x1), (9, 0), (9, 0), (1, x4), (0, s.1)] [] s.2 o) (r0 : ∀ r : MM, P (.inr r) → o = ((9, 0), r)) {z : (Int × MM) ⊕ (MM)} (h : b_X15_add_81 x0 x1 x4 x5 M = some z) (hz : P z) : Sem g d YX15_add 81 [(1, x0), (1, x1), (9, 0), (9, 0), (1, x4), (0, x5)] [] M o := by
  delta b_X15_add_81 at h
  refine S_iload dX15_add_81 rfl ?_
  refine P_if_le (tgt := 131) dX15_add_83 rfl h (fun h => ?_) (fun h => ?_)
  · refine S_weak (ls' := [(1, x0), (9, 0), (9, 0), (9, 0), (1, x4), (0, x5)]) ⟨Or.inr rfl, ⟨Or.inl rfl, ⟨Or.inl rfl, ⟨Or.inl rfl, ⟨Or.inr rfl, ⟨Or.inr rfl, trivial⟩⟩⟩⟩⟩⟩ ?_
    obtain ⟨z0, h, hz⟩ := xit_some' (P := fun r => P r) h hz
    exact s_X15_add_131 hD (P := fun r => P (.inr r)) r0 h hz
  · refine S_aload_n (i := 1) dX15_add_86 rfl rfl ?_
    refine S_aload_n (i := 0) dX15_add_87 rfl rfl ?_
    refine P_gfr FLX15_11 rfl dX15_add_88 h (fun v1 h => ?_)
    refine S_iload dX15_add_91 rfl ?_
    refine S_iconst dX15_add_93 rfl ?_
    refine S_isub dX15_add_94 ?_
    refine P_lar (t := 8) ⟨by decide, by decide⟩ dX15_add_95 h (fun v2 h => ?_)
    refine P_gfr FLX15_42 rfl dX15_add_96 h (fun v3 h => ?_)
    refine S_aload_n (i := 0) dX15_add_99 rfl rfl ?_
    refine P_gfr FLX15_20 rfl dX15_add_100 h (fun v4 h => ?_)
    refine P_invVp 0 [(1, v3), (1, v4)] [] CVX3_isNearer MLX15_63 dX15_add_103 rfl rfl rfl rfl rfl (by omega) h (fun r h => F_X3_isNearer (by omega) h) (fun v5 h => ?_)
    refine P_if_eq (tgt := 131) dX15_add_106 rfl h (fun h => ?_) (fun h => ?_)
    · refine S_weak (ls' := [(1, x0), (9, 0), (9, 0), (9, 0), (1, x4), (0, x5)]) ⟨Or.inr rfl, ⟨Or.inl rfl, ⟨Or.inl rfl, ⟨Or.inl rfl, ⟨Or.inr rfl, ⟨Or.inr rfl, trivial⟩⟩⟩⟩⟩⟩ ?_
      obtain ⟨z0, h, hz⟩ := xit_some' (P := fun r => P r) h hz
      exact s_X15_add_131 hD (P := fun r => P (.inr r)) r0 h hz
    · refine S_aload_n (i := 0) dX15_add_109 rfl rfl ?_
      refine P_gfr FLX15_11 rfl dX15_add_110 h (fun v6 h => ?_)
      refine S_iload dX15_add_113 rfl ?_
      refine S_aload_n (i := 0) dX15_add_115 rfl rfl ?_
      refine P_gfr FLX15_11 rfl dX15_add_116 h (fun v7 h => ?_)
      refine S_iload dX15_add_119 rfl ?_
      refine S_iconst dX15_add_121 rfl ?_
      refine S_isub dX15_add_122 ?_
      refine P_lar (t := 8) ⟨by decide, by decide⟩ dX15_add_123 h (fun v8 h => ?_)
      refine P_sar (t := 8) ⟨by decide, by decide⟩ dX15_add_124 h (fun M1 h => ?_)
      refine S_iinc dX15_add_125 rfl rfl rfl ?_
      change Sem g d YX15_add 128 [(1, x0), (1, x1), (9, 0), (9, 0), (1, x4), (0, x5 + (-1))] [] M1 o
      refine S_goto (tgt := 81) dX15_add_128 rfl ?_
      exact c0 (x5 + (-1), M1) (some_P (P := fun r => P r) h hz)
theorem sl_X15_add_81 {g : GG} {d : Nat} (hD : 4 ≤ d) {x0 x1 x4 x5 : Int} {M : MM} {o : AV × MM} {P : (MM) → Prop} (r0 : ∀ r : MM, P r → o = ((9, 0), r)) {z : MM} (h : l_X15_add_81 x0 x1 x4 x5 M = some z) (hz : P z) : Sem g d YX15_add 81 [(1, x0), (1, x1), (9, 0), (9, 0), (1, x4), (0, x5)] [] M o := by
  refine lp_sound (S := fun s : Int × MM => Sem g d YX15_add 81 [(1, x0), (1, x1), (9, 0), (9, 0), (1, x4), (0, s.1)] [] s.2 o) (P := P) ?_ FU (x5, M) z h hz
  intro s x hx hP
  exact s_X15_add_81 hD (P := Sum.elim (fun s : Int × MM => Sem g d YX15_add 81 [(1, x0), (1, x1), (9, 0), (9, 0), (1, x4), (0, s.1)] [] s.2 o) P) (fun s h => h) (fun s h => r0 s h) hx hP
theorem s_X15_add_37 {g : GG} {d : Nat} (hD : 4 ≤ d) {x0 x1 x2 x3 : Int} {M : MM} {o : AV × MM} {P : (MM) → Prop} (r0 : ∀ r : MM, P r → o = ((9, 0), r)) {z : MM} (h : j_X15_add_37 x0 x1 x2 x3 M = some z) (hz : P z) : Sem g d YX15_add 37 [(1, x0), (1, x1), (0, x2), (0, x3), (9, 0), (9, 0)] [] M o := by
  delta j_X15_add_37 at h
  refine S_aload_n (i := 0) dX15_add_37 rfl rfl ?_
  refine P_gfr FLX15_11 rfl dX15_add_38 h (fun v1 h => ?_)
  refine S_aload_n (i := 0) dX15_add_41 rfl rfl ?_
  refine P_gfi FLX15_36 rfl dX15_add_42 h (fun v2 h => ?_)
  refine P_lar (t := 8) ⟨by decide, by decide⟩ dX15_add_45 h (fun v3 h => ?_)
  refine S_astore dX15_add_46 (Nat.le_of_ble_eq_true rfl) rfl rfl ?_
  change Sem g d YX15_add 48 [(1, x0), (1, x1), (0, x2), (0, x3), (1, v3), (9, 0)] [] M o
  refine S_aload dX15_add_48 rfl ?_
  refine P_gfr FLX15_42 rfl dX15_add_50 h (fun v4 h => ?_)
  refine S_aload_n (i := 1) dX15_add_53 rfl rfl ?_
  refine P_invVm' [(1, x1)] [] CVX3_set MLX15_28 dX15_add_54 rfl rfl rfl rfl (by omega) h (fun r h => F_X3_set (by omega) h) (fun M1 h => ?_)
  refine S_aload dX15_add_57 rfl ?_
  refine S_iload_n (i := 2) dX15_add_59 rfl rfl ?_
  refine P_pfi FLX15_54 FPX15_54 rfl dX15_add_60 h (fun M2 h => ?_)
  refine S_aload dX15_add_63 rfl ?_
  refine S_iload_n (i := 3) dX15_add_65 rfl rfl ?_
  refine P_pfi FLX15_57 FPX15_57 rfl dX15_add_66 h (fun M3 h => ?_)
  refine S_aload dX15_add_69 rfl ?_
  refine S_iconst dX15_add_71 rfl ?_
  refine P_pfi FLX15_60 FPX15_60 rfl dX15_add_72 h (fun M4 h => ?_)
  refine S_aload_n (i := 0) dX15_add_75 rfl rfl ?_
  refine P_gfi FLX15_36 rfl dX15_add_76 h (fun v5 h => ?_)
  refine S_istore dX15_add_79 (Nat.le_of_ble_eq_true rfl) rfl rfl ?_
  change Sem g d YX15_add 81 [(1, x0), (1, x1), (0, x2), (0, x3), (1, v3), (0, v5)] [] M4 o
  refine S_weak (ls' := [(1, x0), (1, x1), (9, 0), (9, 0), (1, v3), (0, v5)]) ⟨Or.inr rfl, ⟨Or.inr rfl, ⟨Or.inl rfl, ⟨Or.inl rfl, ⟨Or.inr rfl, ⟨Or.inr rfl, trivial⟩⟩⟩⟩⟩⟩ ?_
  exact sl_X15_add_81 hD r0 h hz
theorem s_X15_add_0 {g : GG} {d : Nat} (hD : 4 ≤ d) {x0 x1 x2 x3 : Int} {M : MM} {o : AV × MM} {P : (MM) → Prop} (r0 : ∀ r : MM, P r → o = ((9, 0), r)) {z : MM} (h : f_X15_add x0 x1 x2 x3 M = some z) (hz : P z) : Sem g d YX15_add 0 [(1, x0), (1, x1), (0, x2), (0, x3), (9, 0), (9, 0)] [] M o := by
  delta f_X15_add at h
  refine S_aload_n (i := 0) dX15_add_0 rfl rfl ?_
  refine S_aload_n (i := 1) dX15_add_1 rfl rfl ?_
  refine P_invVp 1 [(1, x1)] [] CVX15_find MLX15_49 dX15_add_2 rfl rfl rfl rfl rfl (by omega) h (fun r h => F_X15_find (by omega) h) (fun v1 h => ?_)
  refine P_ifnull (tgt := 9) dX15_add_5 rfl h (fun h => ?_) (fun h => ?_)
  · refine S_aload_n (i := 0) dX15_add_9 rfl rfl ?_
    refine P_gfr FLX15_11 rfl dX15_add_10 h (fun v2 h => ?_)
    refine S_aload_n (i := 0) dX15_add_13 rfl rfl ?_
    refine P_gfi FLX15_36 rfl dX15_add_14 h (fun v3 h => ?_)
    refine P_lar (t := 8) ⟨by decide, by decide⟩ dX15_add_17 h (fun v4 h => ?_)
    refine P_ifnonnull (tgt := 37) dX15_add_18 rfl h (fun h => ?_) (fun h => ?_)
    · exact s_X15_add_37 hD r0 h hz
    · refine S_aload_n (i := 0) dX15_add_21 rfl rfl ?_
      refine P_gfr FLX15_11 rfl dX15_add_22 h (fun v5 h => ?_)
      refine S_aload_n (i := 0) dX15_add_25 rfl rfl ?_
      refine P_gfi FLX15_36 rfl dX15_add_26 h (fun v6 h => ?_)
      refine P_nob NLX15_9 rfl dX15_add_29 h (fun r1 h => ?_)
      refine S_dup dX15_add_32 (Nat.le_of_ble_eq_true rfl) ?_
      refine P_invI' [] [(1, r1.1), (0, v6), (1, v5)] CIX27_init MLX15_53 dX15_add_33 rfl rfl rfl rfl (by omega) h (fun r h => F_X27_init (by omega) h) (fun M1 h => ?_)
      refine P_sar (t := 8) ⟨by decide, by decide⟩ dX15_add_36 h (fun M2 h => ?_)
      exact s_X15_add_37 hD r0 h hz
  · obtain rfl := r0 _ (some_P (P := fun r => P r) h hz)
    exact S_return dX15_add_8 rfl
theorem F_X15_add {g : GG} {d : Nat} (hD : 4 ≤ d) {x0 x1 x2 x3 : Int} {M : MM} {r : MM} (h : f_X15_add x0 x1 x2 x3 M = some r) : Sem g d YX15_add 0 (ini YX15_add [(1, x0), (1, x1), (0, x2), (0, x3)]) [] M ((9, 0), r) := by
  change Sem g d YX15_add 0 [(1, x0), (1, x1), (0, x2), (0, x3), (9, 0), (9, 0)] [] M ((9, 0), r)
  exact s_X15_add_0 hD (P := fun x => x = r) (fun q e => by rw [e]) h rfl
/-! PeerSearch$Lookup.begin(LPeerSearch$Key;Z)V -/
theorem dX15_begin_0 : decode cX15_begin 0 = .ok (.aload_n 0, 1) := by decide +kernel
theorem dX15_begin_1 : decode cX15_begin 1 = .ok (.getfield 20, 3) := by decide +kernel
theorem dX15_begin_4 : decode cX15_begin 4 = .ok (.aload_n 1, 1) := by decide +kernel
theorem dX15_begin_5 : decode cX15_begin 5 = .ok (.invokevirtual 28, 3) := by decide +kernel
theorem dX15_begin_8 : decode cX15_begin 8 = .ok (.aload_n 0, 1) := by decide +kernel
theorem dX15_begin_9 : decode cX15_begin 9 = .ok (.iload_n 2, 1) := by decide +kernel
theorem dX15_begin_10 : decode cX15_begin 10 = .ok (.putfield 32, 3) := by decide +kernel
theorem dX15_begin_13 : decode cX15_begin 13 = .ok (.aload_n 0, 1) := by decide +kernel
theorem dX15_begin_14 : decode cX15_begin 14 = .ok (.iconst 0, 1) := by decide +kernel
theorem dX15_begin_15 : decode cX15_begin 15 = .ok (.putfield 36, 3) := by decide +kernel
theorem dX15_begin_18 : decode cX15_begin 18 = .ok (.aload_n 0, 1) := by decide +kernel
theorem dX15_begin_19 : decode cX15_begin 19 = .ok (.iconst 0, 1) := by decide +kernel
theorem dX15_begin_20 : decode cX15_begin 20 = .ok (.putfield 39, 3) := by decide +kernel
theorem dX15_begin_23 : decode cX15_begin 23 = .ok (.return_, 1) := by decide +kernel
def f_X15_begin (x0 x1 x2 : Int) (M : MM) : Option (MM) :=
  (gfr 15 1 x0 M).bind fun v1 =>
  ck 3 v1 M <| (f_X3_set v1 x1 M).bind fun M1 =>
  (pfz 15 5 x0 x2 M1).bind fun M2 =>
  (pfi 15 3 x0 0 M2).bind fun M3 =>
  (pfi 15 4 x0 0 M3).bind fun M4 =>
  some M4
theorem s_X15_begin_0 {g : GG} {d : Nat} (hD : 1 ≤ d) {x0 x1 x2 : Int} {M : MM} {o : AV × MM} {P : (MM) → Prop} (r0 : ∀ r : MM, P r → o = ((9, 0), r)) {z : MM} (h : f_X15_begin x0 x1 x2 M = some z) (hz : P z) : Sem g d YX15_begin 0 [(1, x0), (1, x1), (0, x2)] [] M o := by
  delta f_X15_begin at h
  refine S_aload_n (i := 0) dX15_begin_0 rfl rfl ?_
  refine P_gfr FLX15_20 rfl dX15_begin_1 h (fun v1 h => ?_)
  refine S_aload_n (i := 1) dX15_begin_4 rfl rfl ?_
  refine P_invVm' [(1, x1)] [] CVX3_set MLX15_28 dX15_begin_5 rfl rfl rfl rfl (by omega) h (fun r h => F_X3_set (by omega) h) (fun M1 h => ?_)
  refine S_aload_n (i := 0) dX15_begin_8 rfl rfl ?_
  refine S_iload_n (i := 2) dX15_begin_9 rfl rfl ?_
  refine P_pfz FLX15_32 FPX15_32 rfl dX15_begin_10 h (fun M2 h => ?_)
  refine S_aload_n (i := 0) dX15_begin_13 rfl rfl ?_
  refine S_iconst dX15_begin_14 rfl ?_
  refine P_pfi FLX15_36 FPX15_36 rfl dX15_begin_15 h (fun M3 h => ?_)
  refine S_aload_n (i := 0) dX15_begin_18 rfl rfl ?_
  refine S_iconst dX15_begin_19 rfl ?_
  refine P_pfi FLX15_39 FPX15_39 rfl dX15_begin_20 h (fun M4 h => ?_)
  obtain rfl := r0 _ (some_P (P := fun r => P r) h hz)
  exact S_return dX15_begin_23 rfl
theorem F_X15_begin {g : GG} {d : Nat} (hD : 1 ≤ d) {x0 x1 x2 : Int} {M : MM} {r : MM} (h : f_X15_begin x0 x1 x2 M = some r) : Sem g d YX15_begin 0 (ini YX15_begin [(1, x0), (1, x1), (0, x2)]) [] M ((9, 0), r) := by
  change Sem g d YX15_begin 0 [(1, x0), (1, x1), (0, x2)] [] M ((9, 0), r)
  exact s_X15_begin_0 hD (P := fun x => x = r) (fun q e => by rw [e]) h rfl
/-! PeerSearch$Table.nearest(LPeerSearch$Key;LPeerSearch$Key;[LPeerSearch$Contact;)I -/
theorem dX20_nearest_0 : decode cX20_nearest 0 = .ok (.iconst 0, 1) := by decide +kernel
theorem dX20_nearest_1 : decode cX20_nearest 1 = .ok (.istore 4, 2) := by decide +kernel
theorem dX20_nearest_3 : decode cX20_nearest 3 = .ok (.iconst 0, 1) := by decide +kernel
theorem dX20_nearest_4 : decode cX20_nearest 4 = .ok (.istore 5, 2) := by decide +kernel
theorem dX20_nearest_6 : decode cX20_nearest 6 = .ok (.iload 5, 2) := by decide +kernel
theorem dX20_nearest_8 : decode cX20_nearest 8 = .ok (.aload_n 0, 1) := by decide +kernel
theorem dX20_nearest_9 : decode cX20_nearest 9 = .ok (.getfield 34, 3) := by decide +kernel
theorem dX20_nearest_12 : decode cX20_nearest 12 = .ok (.if_icmp .ge 172, 3) := by decide +kernel
theorem dX20_nearest_15 : decode cX20_nearest 15 = .ok (.aload_n 0, 1) := by decide +kernel
theorem dX20_nearest_16 : decode cX20_nearest 16 = .ok (.getfield 13, 3) := by decide +kernel
theorem dX20_nearest_19 : decode cX20_nearest 19 = .ok (.iload 5, 2) := by decide +kernel
theorem dX20_nearest_21 : decode cX20_nearest 21 = .ok (.aaload, 1) := by decide +kernel
theorem dX20_nearest_22 : decode cX20_nearest 22 = .ok (.getfield 59, 3) := by decide +kernel
theorem dX20_nearest_25 : decode cX20_nearest 25 = .ok (.astore 6, 2) := by decide +kernel
theorem dX20_nearest_27 : decode cX20_nearest 27 = .ok (.iconst 0, 1) := by decide +kernel
theorem dX20_nearest_28 : decode cX20_nearest 28 = .ok (.istore 7, 2) := by decide +kernel
theorem dX20_nearest_30 : decode cX20_nearest 30 = .ok (.iload 7, 2) := by decide +kernel
theorem dX20_nearest_32 : decode cX20_nearest 32 = .ok (.aload 6, 2) := by decide +kernel
theorem dX20_nearest_34 : decode cX20_nearest 34 = .ok (.getfield 44, 3) := by decide +kernel
theorem dX20_nearest_37 : decode cX20_nearest 37 = .ok (.if_icmp .ge 141, 3) := by decide +kernel
theorem dX20_nearest_40 : decode cX20_nearest 40 = .ok (.aload 6, 2) := by decide +kernel
theorem dX20_nearest_42 : decode cX20_nearest 42 = .ok (.getfield 74, 3) := by decide +kernel
theorem dX20_nearest_45 : decode cX20_nearest 45 = .ok (.iload 7, 2) := by decide +kernel
theorem dX20_nearest_47 : decode cX20_nearest 47 = .ok (.aaload, 1) := by decide +kernel
theorem dX20_nearest_48 : decode cX20_nearest 48 = .ok (.astore 8, 2) := by decide +kernel
theorem dX20_nearest_50 : decode cX20_nearest 50 = .ok (.aload_n 2, 1) := by decide +kernel
theorem dX20_nearest_51 : decode cX20_nearest 51 = .ok (.ifnull 18, 3) := by decide +kernel
theorem dX20_nearest_54 : decode cX20_nearest 54 = .ok (.aload 8, 2) := by decide +kernel
theorem dX20_nearest_56 : decode cX20_nearest 56 = .ok (.getfield 78, 3) := by decide +kernel
theorem dX20_nearest_59 : decode cX20_nearest 59 = .ok (.aload_n 2, 1) := by decide +kernel
theorem dX20_nearest_60 : decode cX20_nearest 60 = .ok (.invokevirtual 127, 3) := by decide +kernel
theorem dX20_nearest_63 : decode cX20_nearest 63 = .ok (.ifCond .eq 6, 3) := by decide +kernel
theorem dX20_nearest_66 : decode cX20_nearest 66 = .ok (.goto 106, 3) := by decide +kernel
theorem dX20_nearest_69 : decode cX20_nearest 69 = .ok (.iload 4, 2) := by decide +kernel
theorem dX20_nearest_71 : decode cX20_nearest 71 = .ok (.istore 9, 2) := by decide +kernel
theorem dX20_nearest_73 : decode cX20_nearest 73 = .ok (.iload 9, 2) := by decide +kernel
theorem dX20_nearest_75 : decode cX20_nearest 75 = .ok (.ifCond .le 30, 3) := by decide +kernel
theorem dX20_nearest_78 : decode cX20_nearest 78 = .ok (.aload 8, 2) := by decide +kernel
theorem dX20_nearest_80 : decode cX20_nearest 80 = .ok (.getfield 78, 3) := by decide +kernel
theorem dX20_nearest_83 : decode cX20_nearest 83 = .ok (.aload_n 3, 1) := by decide +kernel
theorem dX20_nearest_84 : decode cX20_nearest 84 = .ok (.iload 9, 2) := by decide +kernel
theorem dX20_nearest_86 : decode cX20_nearest 86 = .ok (.iconst 1, 1) := by decide +kernel
theorem dX20_nearest_87 : decode cX20_nearest 87 = .ok (.isub, 1) := by decide +kernel
theorem dX20_nearest_88 : decode cX20_nearest 88 = .ok (.aaload, 1) := by decide +kernel
theorem dX20_nearest_89 : decode cX20_nearest 89 = .ok (.getfield 78, 3) := by decide +kernel
theorem dX20_nearest_92 : decode cX20_nearest 92 = .ok (.aload_n 1, 1) := by decide +kernel
theorem dX20_nearest_93 : decode cX20_nearest 93 = .ok (.invokevirtual 131, 3) := by decide +kernel
theorem dX20_nearest_96 : decode cX20_nearest 96 = .ok (.ifCond .eq 9, 3) := by decide +kernel
theorem dX20_nearest_99 : decode cX20_nearest 99 = .ok (.iinc 9 (-1), 3) := by decide +kernel
theorem dX20_nearest_102 : decode cX20_nearest 102 = .ok (.goto (-29), 3) := by decide +kernel
theorem dX20_nearest_105 : decode cX20_nearest 105 = .ok (.iload 9, 2) := by decide +kernel
theorem dX20_nearest_107 : decode cX20_nearest 107 = .ok (.aload_n 0, 1) := by decide +kernel
theorem dX20_nearest_108 : decode cX20_nearest 108 = .ok (.getfield 23, 3) := by decide +kernel
theorem dX20_nearest_111 : decode cX20_nearest 111 = .ok (.if_icmp .ne 6, 3) := by decide +kernel
theorem dX20_nearest_114 : decode cX20_nearest 114 = .ok (.goto 58, 3) := by decide +kernel
theorem dX20_nearest_117 : decode cX20_nearest 117 = .ok (.iload 4, 2) := by decide +kernel
theorem dX20_nearest_119 : decode cX20_nearest 119 = .ok (.aload_n 0, 1) := by decide +kernel
theorem dX20_nearest_120 : decode cX20_nearest 120 = .ok (.getfield 23, 3) := by decide +kernel
theorem dX20_nearest_123 : decode cX20_nearest 123 = .ok (.if_icmp .ge 10, 3) := by decide +kernel
theorem dX20_nearest_126 : decode cX20_nearest 126 = .ok (.iload 4, 2) := by decide +kernel
theorem dX20_nearest_128 : decode cX20_nearest 128 = .ok (.iconst 1, 1) := by decide +kernel
theorem dX20_nearest_129 : decode cX20_nearest 129 = .ok (.iadd, 1) := by decide +kernel
theorem dX20_nearest_130 : decode cX20_nearest 130 = .ok (.goto 5, 3) := by decide +kernel
theorem dX20_nearest_133 : decode cX20_nearest 133 = .ok (.iload 4, 2) := by decide +kernel
theorem dX20_nearest_135 : decode cX20_nearest 135 = .ok (.istore 4, 2) := by decide +kernel
theorem dX20_nearest_137 : decode cX20_nearest 137 = .ok (.iload 4, 2) := by decide +kernel
theorem dX20_nearest_139 : decode cX20_nearest 139 = .ok (.iconst 1, 1) := by decide +kernel
theorem dX20_nearest_140 : decode cX20_nearest 140 = .ok (.isub, 1) := by decide +kernel
theorem dX20_nearest_141 : decode cX20_nearest 141 = .ok (.istore 10, 2) := by decide +kernel
theorem dX20_nearest_143 : decode cX20_nearest 143 = .ok (.iload 10, 2) := by decide +kernel
theorem dX20_nearest_145 : decode cX20_nearest 145 = .ok (.iload 9, 2) := by decide +kernel
theorem dX20_nearest_147 : decode cX20_nearest 147 = .ok (.if_icmp .le 19, 3) := by decide +kernel
theorem dX20_nearest_150 : decode cX20_nearest 150 = .ok (.aload_n 3, 1) := by decide +kernel
theorem dX20_nearest_151 : decode cX20_nearest 151 = .ok (.iload 10, 2) := by decide +kernel
theorem dX20_nearest_153 : decode cX20_nearest 153 = .ok (.aload_n 3, 1) := by decide +kernel
theorem dX20_nearest_154 : decode cX20_nearest 154 = .ok (.iload 10, 2) := by decide +kernel
theorem dX20_nearest_156 : decode cX20_nearest 156 = .ok (.iconst 1, 1) := by decide +kernel
theorem dX20_nearest_157 : decode cX20_nearest 157 = .ok (.isub, 1) := by decide +kernel
theorem dX20_nearest_158 : decode cX20_nearest 158 = .ok (.aaload, 1) := by decide +kernel
theorem dX20_nearest_159 : decode cX20_nearest 159 = .ok (.aastore, 1) := by decide +kernel
theorem dX20_nearest_160 : decode cX20_nearest 160 = .ok (.iinc 10 (-1), 3) := by decide +kernel
theorem dX20_nearest_163 : decode cX20_nearest 163 = .ok (.goto (-20), 3) := by decide +kernel
theorem dX20_nearest_166 : decode cX20_nearest 166 = .ok (.aload_n 3, 1) := by decide +kernel
theorem dX20_nearest_167 : decode cX20_nearest 167 = .ok (.iload 9, 2) := by decide +kernel
theorem dX20_nearest_169 : decode cX20_nearest 169 = .ok (.aload 8, 2) := by decide +kernel
theorem dX20_nearest_171 : decode cX20_nearest 171 = .ok (.aastore, 1) := by decide +kernel
theorem dX20_nearest_172 : decode cX20_nearest 172 = .ok (.iinc 7 1, 3) := by decide +kernel
theorem dX20_nearest_175 : decode cX20_nearest 175 = .ok (.goto (-145), 3) := by decide +kernel
theorem dX20_nearest_178 : decode cX20_nearest 178 = .ok (.iinc 5 1, 3) := by decide +kernel
theorem dX20_nearest_181 : decode cX20_nearest 181 = .ok (.goto (-175), 3) := by decide +kernel
theorem dX20_nearest_184 : decode cX20_nearest 184 = .ok (.iload 4, 2) := by decide +kernel
theorem dX20_nearest_186 : decode cX20_nearest 186 = .ok (.ireturn, 1) := by decide +kernel
def j_X20_nearest_178 (x0 x1 x2 x3 x4 x5 : Int) (M : MM) : Option ((Int × Int × MM) ⊕ (Int × MM)) :=
  cnt (x4, x5 + 1, M)
def j_X20_nearest_172 (x0 x1 x2 x3 x4 x5 x6 x7 : Int) (M : MM) : Option ((Int × Int × MM) ⊕ ((Int × Int × MM) ⊕ (Int × MM))) :=
  cnt (x4, x7 + 1, M)
def j_X20_nearest_166 (x0 x1 x2 x3 x4 x5 x6 x7 x8 x9 : Int) (M : MM) : Option ((Int × Int × MM) ⊕ ((Int × Int × MM) ⊕ (Int × MM))) :=
  (sar 6 x3 x9 x8 M).bind fun M1 =>
  j_X20_nearest_172 x0 x1 x2 x3 x4 x5 x6 x7 M1
def b_X20_nearest_143 (x0 x1 x2 x3 x4 x5 x6 x7 x8 x9 x10 : Int) (M : MM) : Option ((Int × MM) ⊕ ((Int × Int × MM) ⊕ ((Int × Int × MM) ⊕ (Int × MM)))) :=
  if w32 x9 < w32 x10 then
    (lar 6 x3 (x10 - 1) M).bind fun v1 =>
    (sar 6 x3 x10 v1 M).bind fun M1 =>
    cnt (x10 + (-1), M1)
  else
    xit (j_X20_nearest_166 x0 x1 x2 x3 x4 x5 x6 x7 x8 x9 M)
def l_X20_nearest_143 (x0 x1 x2 x3 x4 x5 x6 x7 x8 x9 x10 : Int) (M : MM) : Option ((Int × Int × MM) ⊕ ((Int × Int × MM) ⊕ (Int × MM))) := lpN (fun s : Int × MM => b_X20_nearest_143 x0 x1 x2 x3 x4 x5 x6 x7 x8 x9 s.1 s.2) FU (x10, M)
def j_X20_nearest_135 (x0 x1 x2 x3 x5 x6 x7 x8 x9 y0 : Int) (M : MM) : Option ((Int × Int × MM) ⊕ ((Int × Int × MM) ⊕ (Int × MM))) :=
  l_X20_nearest_143 x0 x1 x2 x3 y0 x5 x6 x7 x8 x9 (y0 - 1) M
def j_X20_nearest_105 (x0 x1 x2 x3 x4 x5 x6 x7 x8 x9 : Int) (M : MM) : Option ((Int × Int × MM) ⊕ ((Int × Int × MM) ⊕ (Int × MM))) :=
  (gfi 20 1 x0 M).bind fun v1 =>
  if w32 x9 = w32 v1 then
    j_X20_nearest_172 x0 x1 x2 x3 x4 x5 x6 x7 M
  else
    (gfi 20 1 x0 M).bind fun v2 =>
    if w32 x4 < w32 v2 then
      j_X20_nearest_135 x0 x1 x2 x3 x5 x6 x7 x8 x9 (x4 + 1) M
    else
      j_X20_nearest_135 x0 x1 x2 x3 x5 x6 x7 x8 x9 x4 M
def b_X20_nearest_73 (x0 x1 x2 x3 x4 x5 x6 x7 x8 x9 : Int) (M : MM) : Option ((Int) ⊕ ((Int × Int × MM) ⊕ ((Int × Int × MM) ⊕ (Int × MM)))) :=
  if 0 < w32 x9 then
    (gfr 23 0 x8 M).bind fun v1 =>
    (lar 6 x3 (x9 - 1) M).bind fun v2 =>
    (gfr 23 0 v2 M).bind fun v3 =>
    ck 3 v1 M <| (f_X3_isNearer v1 v3 x1 M).bind fun v4 =>
    if w32 v4 = 0 then
      xit (j_X20_nearest_105 x0 x1 x2 x3 x4 x5 x6 x7 x8 x9 M)
    else
      cnt (x9 + (-1))
  else
    xit (j_X20_nearest_105 x0 x1 x2 x3 x4 x5 x6 x7 x8 x9 M)
def l_X20_nearest_73 (x0 x1 x2 x3 x4 x5 x6 x7 x8 x9 : Int) (M : MM) : Option ((Int × Int × MM) ⊕ ((Int × Int × MM) ⊕ (Int × MM))) := lpN (fun s : Int => b_X20_nearest_73 x0 x1 x2 x3 x4 x5 x6 x7 x8 s M) FU x9
def j_X20_nearest_69 (x0 x1 x2 x3 x4 x5 x6 x7 x8 : Int) (M : MM) : Option ((Int × Int × MM) ⊕ ((Int × Int × MM) ⊕ (Int × MM))) :=
  l_X20_nearest_73 x0 x1 x2 x3 x4 x5 x6 x7 x8 x4 M
def b_X20_nearest_30 (x0 x1 x2 x3 x4 x5 x6 x7 : Int) (M : MM) : Option ((Int × Int × MM) ⊕ ((Int × Int × MM) ⊕ (Int × MM))) :=
  (gfi 22 1 x6 M).bind fun v1 =>
  if w32 x7 < w32 v1 then
    (gfr 22 0 x6 M).bind fun v2 =>
    (lar 6 v2 x7 M).bind fun v3 =>
    if x2 = -1 then
      j_X20_nearest_69 x0 x1 x2 x3 x4 x5 x6 x7 v3 M
    else
      (gfr 23 0 v3 M).bind fun v4 =>
      ck 3 v4 M <| (f_X3_is v4 x2 M).bind fun v5 =>
      if w32 v5 = 0 then
        j_X20_nearest_69 x0 x1 x2 x3 x4 x5 x6 x7 v3 M
      else
        j_X20_nearest_172 x0 x1 x2 x3 x4 x5 x6 x7 M
  else
    xit (j_X20_nearest_178 x0 x1 x2 x3 x4 x5 M)
def l_X20_nearest_30 (x0 x1 x2 x3 x4 x5 x6 x7 : Int) (M : MM) : Option ((Int × Int × MM) ⊕ (Int × MM)) := lpN (fun s : Int × Int × MM => b_X20_nearest_30 x0 x1 x2 x3 s.1 x5 x6 s.2.1 s.2.2) FU (x4, x7, M)
def b_X20_nearest_6 (x0 x1 x2 x3 x4 x5 : Int) (M : MM) : Option ((Int × Int × MM) ⊕ (Int × MM)) :=
  (gfi 20 4 x0 M).bind fun v1 =>
  if w32 x5 < w32 v1 then
    (gfr 20 3 x0 M).bind fun v2 =>
    (lar 12 v2 x5 M).bind fun v3 =>
    (gfr 21 0 v3 M).bind fun v4 =>
    l_X20_nearest_30 x0 x1 x2 x3 x4 x5 v4 0 M
  else
    xit (some (x4, M))
def l_X20_nearest_6 (x0 x1 x2 x3 x4 x5 : Int) (M : MM) : Option (Int × MM) := lpN (fun s : Int × Int × MM => b_X20_nearest_6 x0 x1 x2 x3 s.1 s.2.1 s.2.2) FU (x4, x5, M)
def f_X20_nearest (x0 x1 x2 x3 : Int) (M : MM) : Option (Int × MM) :=
  l_X20_nearest_6 x0 x1 x2 x3 0 0 M
theorem s_X20_nearest_178 {g : GG} {d : Nat} (hD : 3 ≤ d) {x0 x1 x2 x3 x4 x5 : Int} {M : MM} {o : AV × MM} {P : ((Int × Int × MM) ⊕ (Int × MM)) → Prop} (c0 : ∀ s : Int × Int × MM, P (.inl s) → Sem g d YX20_nearest 6 [(1, x0), (1, x1), (1, x2), (1, x3), (0, s.1), (0, s.2.1), (9, 0), (9, 0), (9, 0), (9, 0), (9, 0)] [] s.2.2 o) (r0 : ∀ r : Int × MM, P (.inr r) → o = ((0, r.1), r.2)) {z : (Int × Int × MM) ⊕ (Int × MM)} (h : j_X20_nearest_178 x0 x1 x2 x3 x4 x5 M = some z) (hz : P z) : Sem g d YX20_nearest 178 [(1, x0), (1, x1), (1, x2), (1, x3), (0, x4), (0, x5), (9, 0), (9, 0), (9, 0), (9, 0), (9, 0)] [] M o := by
  delta j_X20_nearest_178 at h
  refine S_iinc dX20_nearest_178 rfl rfl rfl ?_
  change Sem g d YX20_nearest 181 [(1, x0), (1, x1), (1, x2), (1, x3), (0, x4), (0, x5 + 1), (9, 0), (9, 0), (9, 0), (9, 0), (9, 0)] [] M o
  refine S_goto (tgt := 6) dX20_nearest_181 rfl ?_
  exact c0 (x4, x5 + 1, M) (some_P (P := fun r => P r) h hz)
theorem s_X20_nearest_172 {g : GG} {d : Nat} (hD : 3 ≤ d) {x0 x1 x2 x3 x4 x5 x6 x7 : Int} {M : MM} {o : AV × MM} {P : ((Int × Int × MM) ⊕ ((Int × Int × MM) ⊕ (Int × MM))) → Prop} (c1 : ∀ s : Int × Int × MM, P (.inl s) → Sem g d YX20_nearest 30 [(1, x0), (1, x1), (1, x2), (1, x3), (0, s.1), (0, x5), (1, x6), (0, s.2.1), (9, 0), (9, 0), (9, 0)] [] s.2.2 o) (c0 : ∀ s : Int × Int × MM, P (.inr (.inl s)) → Sem g d YX20_nearest 6 [(1, x0), (1, x1), (1, x2), (1, x3), (0, s.1), (0, s.2.1), (9, 0), (9, 0), (9, 0), (9, 0), (9, 0)] [] s.2.2 o) (r0 : ∀ r : Int × MM, P (.inr (.inr r)) → o = ((0, r.1), r.2)) {z : (Int × Int × MM) ⊕ ((Int × Int × MM) ⊕ (Int × MM))} (h : j_X20_nearest_172 x0 x1 x2 x3 x4 x5 x6 x7 M = some z) (hz : P z) : Sem g d YX20_nearest 172 [(1, x0), (1, x1), (1, x2), (1, x3), (0, x4), (0, x5), (1, x6), (0, x7), (9, 0), (9, 0), (9, 0)] [] M o := by
  delta j_X20_nearest_172 at h
  refine S_iinc dX20_nearest_172 rfl rfl rfl ?_
  change Sem g d YX20_nearest 175 [(1, x0), (1, x1), (1, x2), (1, x3), (0, x4), (0, x5), (1, x6), (0, x7 + 1), (9, 0), (9, 0), (9, 0)] [] M o
  refine S_goto (tgt := 30) dX20_nearest_175 rfl ?_
  exact c1 (x4, x7 + 1, M) (some_P (P := fun r => P r) h hz)
theorem s_X20_nearest_166 {g : GG} {d : Nat} (hD : 3 ≤ d) {x0 x1 x2 x3 x4 x5 x6 x7 x8 x9 : Int} {M : MM} {o : AV × MM} {P : ((Int × Int × MM) ⊕ ((Int × Int × MM) ⊕ (Int × MM))) → Prop} (c1 : ∀ s : Int × Int × MM, P (.inl s) → Sem g d YX20_nearest 30 [(1, x0), (1, x1), (1, x2), (1, x3), (0, s.1), (0, x5), (1, x6), (0, s.2.1), (9, 0), (9, 0), (9, 0)] [] s.2.2 o) (c0 : ∀ s : Int × Int × MM, P (.inr (.inl s)) → Sem g d YX20_nearest 6 [(1, x0), (1, x1), (1, x2), (1, x3), (0, s.1), (0, s.2.1), (9, 0), (9, 0), (9, 0), (9, 0), (9, 0)] [] s.2.2 o) (r0 : ∀ r : Int × MM, P (.inr (.inr r)) → o = ((0, r.1), r.2)) {z : (Int × Int × MM) ⊕ ((Int × Int × MM) ⊕ (Int × MM))} (h : j_X20_nearest_166 x0 x1 x2 x3 x4 x5 x6 x7 x8 x9 M = some z) (hz : P z) : Sem g d YX20_nearest 166 [(1, x0), (1, x1), (1, x2), (1, x3), (0, x4), (0, x5), (1, x6), (0, x7), (1, x8), (0, x9), (9, 0)] [] M o := by
  delta j_X20_nearest_166 at h
  refine S_aload_n (i := 3) dX20_nearest_166 rfl rfl ?_
  refine S_iload dX20_nearest_167 rfl ?_
  refine S_aload dX20_nearest_169 rfl ?_
  refine P_sar (t := 6) ⟨by decide, by decide⟩ dX20_nearest_171 h (fun M1 h => ?_)
  refine S_weak (ls' := [(1, x0), (1, x1), (1, x2), (1, x3), (0, x4), (0, x5), (1, x6), (0, x7), (9, 0), (9, 0), (9, 0)]) ⟨Or.inr rfl, ⟨Or.inr rfl, ⟨Or.inr rfl, ⟨Or.inr rfl, ⟨Or.inr rfl, ⟨Or.inr rfl, ⟨Or.inr rfl, ⟨Or.inr rfl, ⟨Or.inl rfl, ⟨Or.inl rfl, ⟨Or.inl rfl, trivial⟩⟩⟩⟩⟩⟩⟩⟩⟩⟩⟩ ?_
  exact s_X20_nearest_172 hD c1 c0 r0 h hz
theorem s_X20_nearest_143 {g : GG} {d : Nat} (hD : 3 ≤ d) {x0 x1 x2 x3 x4 x5 x6 x7 x8 x9 x10 : Int} {M : MM} {o : AV × MM} {P : ((Int × MM) ⊕ ((Int × Int × MM) ⊕ ((Int × Int × MM) ⊕ (Int × MM)))) → Prop} (c2 : ∀ s : Int × MM, P (.inl s) → Sem g d YX20_nearest 143 [(1, x0), (1, x1), (1, x2), (1, x3), (0, x4), (0, x5), (1, x6), (0, x7), (1, x8), (0, x9), (0, s.1)] [] s.2 o) (c1 : ∀ s : Int × Int × MM, P (.inr (.inl s)) → Sem g d YX20_nearest 30 [(1, x0), (1, x1), (1, x2), (1, x3), (0, s.1), (0, x5), (1, x6), (0, s.2.1), (9, 0), (9, 0), (9, 0)] [] s.2.2 o) (c0 : ∀ s : Int × Int × MM, P (.inr (.inr (.inl s))) → Sem g d YX20_nearest 6 [(1, x0), (1, x1), (1, x2), (1, x3), (0, s.1), (0, s.2.1), (9, 0), (9, 0), (9, 0), (9, 0), (9, 0)] [] s.2.2 o) (r0 : ∀ r : Int × MM, P (.inr (.inr (.inr r))) → o = ((0, r.1), r.2)) {z : (Int × MM) ⊕ ((Int × Int × MM) ⊕ ((Int × Int × MM) ⊕ (Int × MM)))} (h : b_X20_nearest_143 x0 x1 x2 x3 x4 x5 x6 x7 x8 x9 x10 M = some z) (hz : P z) : Sem g d YX20_nearest 143 [(1, x0), (1, x1), (1, x2), (1, x3), (0, x4), (0, x5), (1, x6), (0, x7), (1, x8), (0, x9), (0, x10)] [] M o := by
  delta b_X20_nearest_143 at h
  refine S_iload dX20_nearest_143 rfl ?_
  refine S_iload dX20_nearest_145 rfl ?_
  refine P_icmp_le (tgt := 166) dX20_nearest_147 rfl h (fun h => ?_) (fun h => ?_)
  · refine S_weak (ls' := [(1, x0), (1, x1), (1, x2), (1, x3), (0, x4), (0, x5), (1, x6), (0, x7), (1, x8), (0, x9), (9, 0)]) ⟨Or.inr rfl, ⟨Or.inr rfl, ⟨Or.inr rfl, ⟨Or.inr rfl, ⟨Or.inr rfl, ⟨Or.inr rfl, ⟨Or.inr rfl, ⟨Or.inr rfl, ⟨Or.inr rfl, ⟨Or.inr rfl, ⟨Or.inl rfl, trivial⟩⟩⟩⟩⟩⟩⟩⟩⟩⟩⟩ ?_
    obtain ⟨z0, h, hz⟩ := xit_some' (P := fun r => P r) h hz
    exact s_X20_nearest_166 hD (P := fun r => P (.inr r)) c1 c0 r0 h hz
  · refine S_aload_n (i := 3) dX20_nearest_150 rfl rfl ?_
    refine S_iload dX20_nearest_151 rfl ?_
    refine S_aload_n (i := 3) dX20_nearest_153 rfl rfl ?_
    refine S_iload dX20_nearest_154 rfl ?_
    refine S_iconst dX20_nearest_156 rfl ?_
    refine S_isub dX20_nearest_157 ?_
    refine P_lar (t := 6) ⟨by decide, by decide⟩ dX20_nearest_158 h (fun v1 h => ?_)
    refine P_sar (t := 6) ⟨by decide, by decide⟩ dX20_nearest_159 h (fun M1 h => ?_)
    refine S_iinc dX20_nearest_160 rfl rfl rfl ?_
    change Sem g d YX20_nearest 163 [(1, x0), (1, x1), (1, x2), (1, x3), (0, x4), (0, x5), (1, x6), (0, x7), (1, x8), (0, x9), (0, x10 + (-1))] [] M1 o
    refine S_goto (tgt := 143) dX20_nearest_163 rfl ?_
    exact c2 (x10 + (-1), M1) (some_P (P := fun r => P r) h hz)
theorem sl_X20_nearest_143 {g : GG} {d : Nat} (hD : 3 ≤ d) {x0 x1 x2 x3 x4 x5 x6 x7 x8 x9 x10 : Int} {M : MM} {o : AV × MM} {P : ((Int × Int × MM) ⊕ ((Int × Int × MM) ⊕ (Int × MM))) → Prop} (c1 : ∀ s : Int × Int × MM, P (.inl s) → Sem g d YX20_nearest 30 [(1, x0), (1, x1), (1, x2), (1, x3), (0, s.1), (0, x5), (1, x6), (0, s.2.1), (9, 0), (9, 0), (9, 0)] [] s.2.2 o) (c0 : ∀ s : Int × Int × MM, P (.inr (.inl s)) → Sem g d YX20_nearest 6 [(1, x0), (1, x1), (1, x2), (1, x3), (0, s.1), (0, s.2.1), (9, 0), (9, 0), (9, 0), (9, 0), (9, 0)] [] s.2.2 o) (r0 : ∀ r : Int × MM, P (.inr (.inr r)) → o = ((0, r.1), r.2)) {z : (Int × Int × MM) ⊕ ((Int × Int × MM) ⊕ (Int × MM))} (h : l_X20_nearest_143 x0 x1 x2 x3 x4 x5 x6 x7 x8 x9 x10 M = some z) (hz : P z) : Sem g d YX20_nearest 143 [(1, x0), (1, x1), (1, x2), (1, x3), (0, x4), (0, x5), (1, x6), (0, x7), (1, x8), (0, x9), (0, x10)] [] M o := by
  refine lp_sound (S := fun s : Int × MM => Sem g d YX20_nearest 143 [(1, x0), (1, x1), (1, x2), (1, x3), (0, x4), (0, x5), (1, x6), (0, x7), (1, x8), (0, x9), (0, s.1)] [] s.2 o) (P := P) ?_ FU (x10, M) z h hz
  intro s x hx hP
  exact s_X20_nearest_143 hD (P := Sum.elim (fun s : Int × MM => Sem g d YX20_nearest 143 [(1, x0), (1, x1), (1, x2), (1, x3), (0, x4), (0, x5), (1, x6), (0, x7), (1, x8), (0, x9), (0, s.1)] [] s.2 o) P) (fun s h => h) (fun s h => c1 s h) (fun s h => c0 s h) (fun s h => r0 s h) hx hP
theorem s_X20_nearest_135 {g : GG} {d : Nat} (hD : 3 ≤ d) {x0 x1 x2 x3 x5 x6 x7 x8 x9 y0 : Int} {M : MM} {o : AV × MM} {P : ((Int × Int × MM) ⊕ ((Int × Int × MM) ⊕ (Int × MM))) → Prop} (c1 : ∀ s : Int × Int × MM, P (.inl s) → Sem g d YX20_nearest 30 [(1, x0), (1, x1), (1, x2), (1, x3), (0, s.1), (0, x5), (1, x6), (0, s.2.1), (9, 0), (9, 0), (9, 0)] [] s.2.2 o) (c0 : ∀ s : Int × Int × MM, P (.inr (.inl s)) → Sem g d YX20_nearest 6 [(1, x0), (1, x1), (1, x2), (1, x3), (0, s.1), (0, s.2.1), (9, 0), (9, 0), (9, 0), (9, 0), (9, 0)] [] s.2.2 o) (r0 : ∀ r : Int × MM, P (.inr (.inr r)) → o = ((0, r.1), r.2)) {z : (Int × Int × MM) ⊕ ((Int × Int × MM) ⊕ (Int × MM))} (h : j_X20_nearest_135 x0 x1 x2 x3 x5 x6 x7 x8 x9 y0 M = some z) (hz : P z) : Sem g d YX20_nearest 135 [(1, x0), (1, x1), (1, x2), (1, x3), (9, 0), (0, x5), (1, x6), (0, x7), (1, x8), (0, x9), (9, 0)] [(0, y0)] M o := by
  delta j_X20_nearest_135 at h
  refine S_istore dX20_nearest_135 (Nat.le_of_ble_eq_true rfl) rfl rfl ?_
  change Sem g d YX20_nearest 137 [(1, x0), (1, x1), (1, x2), (1, x3), (0, y0), (0, x5), (1, x6), (0, x7), (1, x8), (0, x9), (9, 0)] [] M o
  refine S_iload dX20_nearest_137 rfl ?_
  refine S_iconst dX20_nearest_139 rfl ?_
  refine S_isub dX20_nearest_140 ?_
  refine S_istore dX20_nearest_141 (Nat.le_of_ble_eq_true rfl) rfl rfl ?_
  change Sem g d YX20_nearest 143 [(1, x0), (1, x1), (1, x2), (1, x3), (0, y0), (0, x5), (1, x6), (0, x7), (1, x8), (0, x9), (0, y0 - 1)] [] M o
  exact sl_X20_nearest_143 hD c1 c0 r0 h hz
theorem s_X20_nearest_105 {g : GG} {d : Nat} (hD : 3 ≤ d) {x0 x1 x2 x3 x4 x5 x6 x7 x8 x9 : Int} {M : MM} {o : AV × MM} {P : ((Int × Int × MM) ⊕ ((Int × Int × MM) ⊕ (Int × MM))) → Prop} (c1 : ∀ s : Int × Int × MM, P (.inl s) → Sem g d YX20_nearest 30 [(1, x0), (1, x1), (1, x2), (1, x3), (0, s.1), (0, x5), (1, x6), (0, s.2.1), (9, 0), (9, 0), (9, 0)] [] s.2.2 o) (c0 : ∀ s : Int × Int × MM, P (.inr (.inl s)) → Sem g d YX20_nearest 6 [(1, x0), (1, x1), (1, x2), (1, x3), (0, s.1), (0, s.2.1), (9, 0), (9, 0), (9, 0), (9, 0), (9, 0)] [] s.2.2 o) (r0 : ∀ r : Int × MM, P (.inr (.inr r)) → o = ((0, r.1), r.2)) {z : (Int × Int × MM) ⊕ ((Int × Int × MM) ⊕ (Int × MM))} (h : j_X20_nearest_105 x0 x1 x2 x3 x4 x5 x6 x7 x8 x9 M = some z) (hz : P z) : Sem g d YX20_nearest 105 [(1, x0), (1, x1), (1, x2), (1, x3), (0, x4), (0, x5), (1, x6), (0, x7), (1, x8), (0, x9), (9, 0)] [] M o := by
  delta j_X20_nearest_105 at h
  refine S_iload dX20_nearest_105 rfl ?_
  refine S_aload_n (i := 0) dX20_nearest_107 rfl rfl ?_
  refine P_gfi FLX20_23 rfl dX20_nearest_108 h (fun v1 h => ?_)
  refine P_icmp_ne (tgt := 117) dX20_nearest_111 rfl h (fun h => ?_) (fun h => ?_)
  · refine S_iload dX20_nearest_117 rfl ?_
    refine S_aload_n (i := 0) dX20_nearest_119 rfl rfl ?_
    refine P_gfi FLX20_23 rfl dX20_nearest_120 h (fun v2 h => ?_)
    refine P_icmp_ge (tgt := 133) dX20_nearest_123 rfl h (fun h => ?_) (fun h => ?_)
    · refine S_iload dX20_nearest_133 rfl ?_
      refine S_weak (ls' := [(1, x0), (1, x1), (1, x2), (1, x3), (9, 0), (0, x5), (1, x6), (0, x7), (1, x8), (0, x9), (9, 0)]) ⟨Or.inr rfl, ⟨Or.inr rfl, ⟨Or.inr rfl, ⟨Or.inr rfl, ⟨Or.inl rfl, ⟨Or.inr rfl, ⟨Or.inr rfl, ⟨Or.inr rfl, ⟨Or.inr rfl, ⟨Or.inr rfl, ⟨Or.inl rfl, trivial⟩⟩⟩⟩⟩⟩⟩⟩⟩⟩⟩ ?_
      exact s_X20_nearest_135 hD c1 c0 r0 h hz
    · refine S_iload dX20_nearest_126 rfl ?_
      refine S_iconst dX20_nearest_128 rfl ?_
      refine S_iadd dX20_nearest_129 ?_
      refine S_goto (tgt := 135) dX20_nearest_130 rfl ?_
      refine S_weak (ls' := [(1, x0), (1, x1), (1, x2), (1, x3), (9, 0), (0, x5), (1, x6), (0, x7), (1, x8), (0, x9), (9, 0)]) ⟨Or.inr rfl, ⟨Or.inr rfl, ⟨Or.inr rfl, ⟨Or.inr rfl, ⟨Or.inl rfl, ⟨Or.inr rfl, ⟨Or.inr rfl, ⟨Or.inr rfl, ⟨Or.inr rfl, ⟨Or.inr rfl, ⟨Or.inl rfl, trivial⟩⟩⟩⟩⟩⟩⟩⟩⟩⟩⟩ ?_
      exact s_X20_nearest_135 hD c1 c0 r0 h hz
  · refine S_goto (tgt := 172) dX20_nearest_114 rfl ?_
    refine S_weak (ls' := [(1, x0), (1, x1), (1, x2), (1, x3), (0, x4), (0, x5), (1, x6), (0, x7), (9, 0), (9, 0), (9, 0)]) ⟨Or.inr rfl, ⟨Or.inr rfl, ⟨Or.inr rfl, ⟨Or.inr rfl, ⟨Or.inr rfl, ⟨Or.inr rfl, ⟨Or.inr rfl, ⟨Or.inr rfl, ⟨Or.inl rfl, ⟨Or.inl rfl, ⟨Or.inl rfl, trivial⟩⟩⟩⟩⟩⟩⟩⟩⟩⟩⟩ ?_
    exact s_X20_nearest_172 hD c1 c0 r0 h hz
theorem s_X20_nearest_73 {g : GG} {d : Nat} (hD : 3 ≤ d) {x0 x1 x2 x3 x4 x5 x6 x7 x8 x9 : Int} {M : MM} {o : AV × MM} {P : ((Int) ⊕ ((Int × Int × MM) ⊕ ((Int × Int × MM) ⊕ (Int × MM)))) → Prop} (c2 : ∀ s : Int, P (.inl s) → Sem g d YX20_nearest 73 [(1, x0), (1, x1), (1, x2), (1, x3), (0, x4), (0, x5), (1, x6), (0, x7), (1, x8), (0, s), (9, 0)] [] M o) (c1 : ∀ s : Int × Int × MM, P (.inr (.inl s)) → Sem g d YX20_nearest 30 [(1, x0), (1, x1), (1, x2), (1, x3), (0, s.1), (0, x5), (1, x6), (0, s.2.1), (9, 0), (9, 0), (9, 0)] [] s.2.2 o) (c0 : ∀ s : Int × Int × MM, P (.inr (.inr (.inl s))) → Sem g d YX20_nearest 6 [(1, x0), (1, x1), (1, x2), (1, x3), (0, s.1), (0, s.2.1), (9, 0), (9, 0), (9, 0), (9, 0), (9, 0)] [] s.2.2 o) (r0 : ∀ r : Int × MM, P (.inr (.inr (.inr r))) → o = ((0, r.1), r.2)) {z : (Int) ⊕ ((Int × Int × MM) ⊕ ((Int × Int × MM) ⊕ (Int × MM)))} (h : b_X20_nearest_73 x0 x1 x2 x3 x4 x5 x6 x7 x8 x9 M = some z) (hz : P z) : Sem g d YX20_nearest 73 [(1, x0), (1, x1), (1, x2), (1, x3), (0, x4), (0, x5), (1, x6), (0, x7), (1, x8), (0, x9), (9, 0)] [] M o := by
  delta b_X20_nearest_73 at h
  refine S_iload dX20_nearest_73 rfl ?_
  refine P_if_le (tgt := 105) dX20_nearest_75 rfl h (fun h => ?_) (fun h => ?_)
  · obtain ⟨z0, h, hz⟩ := xit_some' (P := fun r => P r) h hz
    exact s_X20_nearest_105 hD (P := fun r => P (.inr r)) c1 c0 r0 h hz
  · refine S_aload dX20_nearest_78 rfl ?_
    refine P_gfr FLX20_78 rfl dX20_nearest_80 h (fun v1 h => ?_)
    refine S_aload_n (i := 3) dX20_nearest_83 rfl rfl ?_
    refine S_iload dX20_nearest_84 rfl ?_
    refine S_iconst dX20_nearest_86 rfl ?_
    refine S_isub dX20_nearest_87 ?_
    refine P_lar (t := 6) ⟨by decide, by decide⟩ dX20_nearest_88 h (fun v2 h => ?_)
    refine P_gfr FLX20_78 rfl dX20_nearest_89 h (fun v3 h => ?_)
    refine S_aload_n (i := 1) dX20_nearest_92 rfl rfl ?_
    refine P_invVp 0 [(1, v3), (1, x1)] [] CVX3_isNearer MLX20_131 dX20_nearest_93 rfl rfl rfl rfl rfl (by omega) h (fun r h => F_X3_isNearer (by omega) h) (fun v4 h => ?_)
    refine P_if_eq (tgt := 105) dX20_nearest_96 rfl h (fun h => ?_) (fun h => ?_)
    · obtain ⟨z0, h, hz⟩ := xit_some' (P := fun r => P r) h hz
      exact s_X20_nearest_105 hD (P := fun r => P (.inr r)) c1 c0 r0 h hz
    · refine S_iinc dX20_nearest_99 rfl rfl rfl ?_
      change Sem g d YX20_nearest 102 [(1, x0), (1, x1), (1, x2), (1, x3), (0, x4), (0, x5), (1, x6), (0, x7), (1, x8), (0, x9 + (-1)), (9, 0)] [] M o
      refine S_goto (tgt := 73) dX20_nearest_102 rfl ?_
      exact c2 (x9 + (-1)) (some_P (P := fun r => P r) h hz)
theorem sl_X20_nearest_73 {g : GG} {d : Nat} (hD : 3 ≤ d) {x0 x1 x2 x3 x4 x5 x6 x7 x8 x9 : Int} {M : MM} {o : AV × MM} {P : ((Int × Int × MM) ⊕ ((Int × Int × MM) ⊕ (Int × MM))) → Prop} (c1 : ∀ s : Int × Int × MM, P (.inl s) → Sem g d YX20_nearest 30 [(1, x0), (1, x1), (1, x2), (1, x3), (0, s.1), (0, x5), (1, x6), (0, s.2.1), (9, 0), (9, 0), (9, 0)] [] s.2.2 o) (c0 : ∀ s : Int × Int × MM, P (.inr (.inl s)) → Sem g d YX20_nearest 6 [(1, x0), (1, x1), (1, x2), (1, x3), (0, s.1), (0, s.2.1), (9, 0), (9, 0), (9, 0), (9, 0), (9, 0)] [] s.2.2 o) (r0 : ∀ r : Int × MM, P (.inr (.inr r)) → o = ((0, r.1), r.2)) {z : (Int × Int × MM) ⊕ ((Int × Int × MM) ⊕ (Int × MM))} (h : l_X20_nearest_73 x0 x1 x2 x3 x4 x5 x6 x7 x8 x9 M = some z) (hz : P z) : Sem g d YX20_nearest 73 [(1, x0), (1, x1), (1, x2), (1, x3), (0, x4), (0, x5), (1, x6), (0, x7), (1, x8), (0, x9), (9, 0)] [] M o := by
  refine lp_sound (S := fun s : Int => Sem g d YX20_nearest 73 [(1, x0), (1, x1), (1, x2), (1, x3), (0, x4), (0, x5), (1, x6), (0, x7), (1, x8), (0, s), (9, 0)] [] M o) (P := P) ?_ FU x9 z h hz
  intro s x hx hP
  exact s_X20_nearest_73 hD (P := Sum.elim (fun s : Int => Sem g d YX20_nearest 73 [(1, x0), (1, x1), (1, x2), (1, x3), (0, x4), (0, x5), (1, x6), (0, x7), (1, x8), (0, s), (9, 0)] [] M o) P) (fun s h => h) (fun s h => c1 s h) (fun s h => c0 s h) (fun s h => r0 s h) hx hP
theorem s_X20_nearest_69 {g : GG} {d : Nat} (hD : 3 ≤ d) {x0 x1 x2 x3 x4 x5 x6 x7 x8 : Int} {M : MM} {o : AV × MM} {P : ((Int × Int × MM) ⊕ ((Int × Int × MM) ⊕ (Int × MM))) → Prop} (c1 : ∀ s : Int × Int × MM, P (.inl s) → Sem g d YX20_nearest 30 [(1, x0), (1, x1), (1, x2), (1, x3), (0, s.1), (0, x5), (1, x6), (0, s.2.1), (9, 0), (9, 0), (9, 0)] [] s.2.2 o) (c0 : ∀ s : Int × Int × MM, P (.inr (.inl s)) → Sem g d YX20_nearest 6 [(1, x0), (1, x1), (1, x2), (1, x3), (0, s.1), (0, s.2.1), (9, 0), (9, 0), (9, 0), (9, 0), (9, 0)] [] s.2.2 o) (r0 : ∀ r : Int × MM, P (.inr (.inr r)) → o = ((0, r.1), r.2)) {z : (Int × Int × MM) ⊕ ((Int × Int × MM) ⊕ (Int × MM))} (h : j_X20_nearest_69 x0 x1 x2 x3 x4 x5 x6 x7 x8 M = some z) (hz : P z) : Sem g d YX20_nearest 69 [(1, x0), (1, x1), (1, x2), (1, x3), (0, x4), (0, x5), (1, x6), (0, x7), (1, x8), (9, 0), (9, 0)] [] M o := by
  delta j_X20_nearest_69 at h
  refine S_iload dX20_nearest_69 rfl ?_
  refine S_istore dX20_nearest_71 (Nat.le_of_ble_eq_true rfl) rfl rfl ?_
  change Sem g d YX20_nearest 73 [(1, x0), (1, x1), (1, x2), (1, x3), (0, x4), (0, x5), (1, x6), (0, x7), (1, x8), (0, x4), (9, 0)] [] M o
  exact sl_X20_nearest_73 hD c1 c0 r0 h hz
theorem s_X20_nearest_30 {g : GG} {d : Nat} (hD : 3 ≤ d) {x0 x1 x2 x3 x4 x5 x6 x7 : Int} {M : MM} {o : AV × MM} {P : ((Int × Int × MM) ⊕ ((Int × Int × MM) ⊕ (Int × MM))) → Prop} (c1 : ∀ s : Int × Int × MM, P (.inl s) → Sem g d YX20_nearest 30 [(1, x0), (1, x1), (1, x2), (1, x3), (0, s.1), (0, x5), (1, x6), (0, s.2.1), (9, 0), (9, 0), (9, 0)] [] s.2.2 o) (c0 : ∀ s : Int × Int × MM, P (.inr (.inl s)) → Sem g d YX20_nearest 6 [(1, x0), (1, x1), (1, x2), (1, x3), (0, s.1), (0, s.2.1), (9, 0), (9, 0), (9, 0), (9, 0), (9, 0)] [] s.2.2 o) (r0 : ∀ r : Int × MM, P (.inr (.inr r)) → o = ((0, r.1), r.2)) {z : (Int × Int × MM) ⊕ ((Int × Int × MM) ⊕ (Int × MM))} (h : b_X20_nearest_30 x0 x1 x2 x3 x4 x5 x6 x7 M = some z) (hz : P z) : Sem g d YX20_nearest 30 [(1, x0), (1, x1), (1, x2), (1, x3), (0, x4), (0, x5), (1, x6), (0, x7), (9, 0), (9, 0), (9, 0)] [] M o := by
  delta b_X20_nearest_30 at h
  refine S_iload dX20_nearest_30 rfl ?_
  refine S_aload dX20_nearest_32 rfl ?_
  refine P_gfi FLX20_44 rfl dX20_nearest_34 h (fun v1 h => ?_)
  refine P_icmp_ge (tgt := 178) dX20_nearest_37 rfl h (fun h => ?_) (fun h => ?_)
  · refine S_weak (ls' := [(1, x0), (1, x1), (1, x2), (1, x3), (0, x4), (0, x5), (9, 0), (9, 0), (9, 0), (9, 0), (9, 0)]) ⟨Or.inr rfl, ⟨Or.inr rfl, ⟨Or.inr rfl, ⟨Or.inr rfl, ⟨Or.inr rfl, ⟨Or.inr rfl, ⟨Or.inl rfl, ⟨Or.inl rfl, ⟨Or.inl rfl, ⟨Or.inl rfl, ⟨Or.inl rfl, trivial⟩⟩⟩⟩⟩⟩⟩⟩⟩⟩⟩ ?_
    obtain ⟨z0, h, hz⟩ := xit_some' (P := fun r => P r) h hz
    exact s_X20_nearest_178 hD (P := fun r => P (.inr r)) c0 r0 h hz
  · refine S_aload dX20_nearest_40 rfl ?_
    refine P_gfr FLX20_74 rfl dX20_nearest_42 h (fun v2 h => ?_)
    refine S_iload dX20_nearest_45 rfl ?_
    refine P_lar (t := 6) ⟨by decide, by decide⟩ dX20_nearest_47 h (fun v3 h => ?_)
    refine S_astore dX20_nearest_48 (Nat.le_of_ble_eq_true rfl) rfl rfl ?_
    change Sem g d YX20_nearest 50 [(1, x0), (1, x1), (1, x2), (1, x3), (0, x4), (0, x5), (1, x6), (0, x7), (1, v3), (9, 0), (9, 0)] [] M o
    refine S_aload_n (i := 2) dX20_nearest_50 rfl rfl ?_
    refine P_ifnull (tgt := 69) dX20_nearest_51 rfl h (fun h => ?_) (fun h => ?_)
    · exact s_X20_nearest_69 hD c1 c0 r0 h hz
    · refine S_aload dX20_nearest_54 rfl ?_
      refine P_gfr FLX20_78 rfl dX20_nearest_56 h (fun v4 h => ?_)
      refine S_aload_n (i := 2) dX20_nearest_59 rfl rfl ?_
      refine P_invVp 0 [(1, x2)] [] CVX3_is MLX20_127 dX20_nearest_60 rfl rfl rfl rfl rfl (by omega) h (fun r h => F_X3_is (by omega) h) (fun v5 h => ?_)
      refine P_if_eq (tgt := 69) dX20_nearest_63 rfl h (fun h => ?_) (fun h => ?_)
      · exact s_X20_nearest_69 hD c1 c0 r0 h hz
      · refine S_goto (tgt := 172) dX20_nearest_66 rfl ?_
        refine S_weak (ls' := [(1, x0), (1, x1), (1, x2), (1, x3), (0, x4), (0, x5), (1, x6), (0, x7), (9, 0), (9, 0), (9, 0)]) ⟨Or.inr rfl, ⟨Or.inr rfl, ⟨Or.inr rfl, ⟨Or.inr rfl, ⟨Or.inr rfl, ⟨Or.inr rfl, ⟨Or.inr rfl, ⟨Or.inr rfl, ⟨Or.inl rfl, ⟨Or.inl rfl, ⟨Or.inl rfl, trivial⟩⟩⟩⟩⟩⟩⟩⟩⟩⟩⟩ ?_
        exact s_X20_nearest_172 hD c1 c0 r0 h hz
theorem sl_X20_nearest_30 {g : GG} {d : Nat} (hD : 3 ≤ d) {x0 x1 x2 x3 x4 x5 x6 x7 : Int} {M : MM} {o : AV × MM} {P : ((Int × Int × MM) ⊕ (Int × MM)) → Prop} (c0 : ∀ s : Int × Int × MM, P (.inl s) → Sem g d YX20_nearest 6 [(1, x0), (1, x1), (1, x2), (1, x3), (0, s.1), (0, s.2.1), (9, 0), (9, 0), (9, 0), (9, 0), (9, 0)] [] s.2.2 o) (r0 : ∀ r : Int × MM, P (.inr r) → o = ((0, r.1), r.2)) {z : (Int × Int × MM) ⊕ (Int × MM)} (h : l_X20_nearest_30 x0 x1 x2 x3 x4 x5 x6 x7 M = some z) (hz : P z) : Sem g d YX20_nearest 30 [(1, x0), (1, x1), (1, x2), (1, x3), (0, x4), (0, x5), (1, x6), (0, x7), (9, 0), (9, 0), (9, 0)] [] M o := by
  refine lp_sound (S := fun s : Int × Int × MM => Sem g d YX20_nearest 30 [(1, x0), (1, x1), (1, x2), (1, x3), (0, s.1), (0, x5), (1, x6), (0, s.2.1), (9, 0), (9, 0), (9, 0)] [] s.2.2 o) (P := P) ?_ FU (x4, x7, M) z h hz
  intro s x hx hP
  exact s_X20_nearest_30 hD (P := Sum.elim (fun s : Int × Int × MM => Sem g d YX20_nearest 30 [(1, x0), (1, x1), (1, x2), (1, x3), (0, s.1), (0, x5), (1, x6), (0, s.2.1), (9, 0), (9, 0), (9, 0)] [] s.2.2 o) P) (fun s h => h) (fun s h => c0 s h) (fun s h => r0 s h) hx hP
theorem s_X20_nearest_6 {g : GG} {d : Nat} (hD : 3 ≤ d) {x0 x1 x2 x3 x4 x5 : Int} {M : MM} {o : AV × MM} {P : ((Int × Int × MM) ⊕ (Int × MM)) → Prop} (c0 : ∀ s : Int × Int × MM, P (.inl s) → Sem g d YX20_nearest 6 [(1, x0), (1, x1), (1, x2), (1, x3), (0, s.1), (0, s.2.1), (9, 0), (9, 0), (9, 0), (9, 0), (9, 0)] [] s.2.2 o) (r0 : ∀ r : Int × MM, P (.inr r) → o = ((0, r.1), r.2)) {z : (Int × Int × MM) ⊕ (Int × MM)} (h : b_X20_nearest_6 x0 x1 x2 x3 x4 x5 M = some z) (hz : P z) : Sem g d YX20_nearest 6 [(1, x0), (1, x1), (1, x2), (1, x3), (0, x4), (0, x5), (9, 0), (9, 0), (9, 0), (9, 0), (9, 0)] [] M o := by
  delta b_X20_nearest_6 at h
  refine S_iload dX20_nearest_6 rfl ?_
  refine S_aload_n (i := 0) dX20_nearest_8 rfl rfl ?_
  refine P_gfi FLX20_34 rfl dX20_nearest_9 h (fun v1 h => ?_)
  refine P_icmp_ge (tgt := 184) dX20_nearest_12 rfl h (fun h => ?_) (fun h => ?_)
  · obtain ⟨z0, h, hz⟩ := xit_some' (P := fun r => P r) h hz
    refine S_iload dX20_nearest_184 rfl ?_
    obtain rfl := r0 _ (some_P (P := fun r => P (.inr r)) h hz)
    exact P_ret dX20_nearest_186 rfl (Or.inl rfl)
  · refine S_aload_n (i := 0) dX20_nearest_15 rfl rfl ?_
    refine P_gfr FLX20_13 rfl dX20_nearest_16 h (fun v2 h => ?_)
    refine S_iload dX20_nearest_19 rfl ?_
    refine P_lar (t := 12) ⟨by decide, by decide⟩ dX20_nearest_21 h (fun v3 h => ?_)
    refine P_gfr FLX20_59 rfl dX20_nearest_22 h (fun v4 h => ?_)
    refine S_astore dX20_nearest_25 (Nat.le_of_ble_eq_true rfl) rfl rfl ?_
    change Sem g d YX20_nearest 27 [(1, x0), (1, x1), (1, x2), (1, x3), (0, x4), (0, x5), (1, v4), (9, 0), (9, 0), (9, 0), (9, 0)] [] M o
    refine S_iconst dX20_nearest_27 rfl ?_
    refine S_istore dX20_nearest_28 (Nat.le_of_ble_eq_true rfl) rfl rfl ?_
    change Sem g d YX20_nearest 30 [(1, x0), (1, x1), (1, x2), (1, x3), (0, x4), (0, x5), (1, v4), (0, 0), (9, 0), (9, 0), (9, 0)] [] M o
    exact sl_X20_nearest_30 hD c0 r0 h hz
theorem sl_X20_nearest_6 {g : GG} {d : Nat} (hD : 3 ≤ d) {x0 x1 x2 x3 x4 x5 : Int} {M : MM} {o : AV × MM} {P : (Int × MM) → Prop} (r0 : ∀ r : Int × MM, P r → o = ((0, r.1), r.2)) {z : Int × MM} (h : l_X20_nearest_6 x0 x1 x2 x3 x4 x5 M = some z) (hz : P z) : Sem g d YX20_nearest 6 [(1, x0), (1, x1), (1, x2), (1, x3), (0, x4), (0, x5), (9, 0), (9, 0), (9, 0), (9, 0), (9, 0)] [] M o := by
  refine lp_sound (S := fun s : Int × Int × MM => Sem g d YX20_nearest 6 [(1, x0), (1, x1), (1, x2), (1, x3), (0, s.1), (0, s.2.1), (9, 0), (9, 0), (9, 0), (9, 0), (9, 0)] [] s.2.2 o) (P := P) ?_ FU (x4, x5, M) z h hz
  intro s x hx hP
  exact s_X20_nearest_6 hD (P := Sum.elim (fun s : Int × Int × MM => Sem g d YX20_nearest 6 [(1, x0), (1, x1), (1, x2), (1, x3), (0, s.1), (0, s.2.1), (9, 0), (9, 0), (9, 0), (9, 0), (9, 0)] [] s.2.2 o) P) (fun s h => h) (fun s h => r0 s h) hx hP
theorem s_X20_nearest_0 {g : GG} {d : Nat} (hD : 3 ≤ d) {x0 x1 x2 x3 : Int} {M : MM} {o : AV × MM} {P : (Int × MM) → Prop} (r0 : ∀ r : Int × MM, P r → o = ((0, r.1), r.2)) {z : Int × MM} (h : f_X20_nearest x0 x1 x2 x3 M = some z) (hz : P z) : Sem g d YX20_nearest 0 [(1, x0), (1, x1), (1, x2), (1, x3), (9, 0), (9, 0), (9, 0), (9, 0), (9, 0), (9, 0), (9, 0)] [] M o := by
  delta f_X20_nearest at h
  refine S_iconst dX20_nearest_0 rfl ?_
  refine S_istore dX20_nearest_1 (Nat.le_of_ble_eq_true rfl) rfl rfl ?_
  change Sem g d YX20_nearest 3 [(1, x0), (1, x1), (1, x2), (1, x3), (0, 0), (9, 0), (9, 0), (9, 0), (9, 0), (9, 0), (9, 0)] [] M o
  refine S_iconst dX20_nearest_3 rfl ?_
  refine S_istore dX20_nearest_4 (Nat.le_of_ble_eq_true rfl) rfl rfl ?_
  change Sem g d YX20_nearest 6 [(1, x0), (1, x1), (1, x2), (1, x3), (0, 0), (0, 0), (9, 0), (9, 0), (9, 0), (9, 0), (9, 0)] [] M o
  exact sl_X20_nearest_6 hD r0 h hz
theorem F_X20_nearest {g : GG} {d : Nat} (hD : 3 ≤ d) {x0 x1 x2 x3 : Int} {M : MM} {r : Int × MM} (h : f_X20_nearest x0 x1 x2 x3 M = some r) : Sem g d YX20_nearest 0 (ini YX20_nearest [(1, x0), (1, x1), (1, x2), (1, x3)]) [] M ((0, r.1), r.2) := by
  change Sem g d YX20_nearest 0 [(1, x0), (1, x1), (1, x2), (1, x3), (9, 0), (9, 0), (9, 0), (9, 0), (9, 0), (9, 0), (9, 0)] [] M ((0, r.1), r.2)
  exact s_X20_nearest_0 hD (P := fun x => x = r) (fun q e => by rw [e]) h rfl
/-! PeerSearch$Work.look(LPeerSearch$Key;Z)Z -/
theorem dX11_look_0 : decode cX11_look 0 = .ok (.aload_n 0, 1) := by decide +kernel
theorem dX11_look_1 : decode cX11_look 1 = .ok (.getfield 47, 3) := by decide +kernel
theorem dX11_look_4 : decode cX11_look 4 = .ok (.aload_n 1, 1) := by decide +kernel
theorem dX11_look_5 : decode cX11_look 5 = .ok (.iload_n 2, 1) := by decide +kernel
theorem dX11_look_6 : decode cX11_look 6 = .ok (.invokevirtual 100, 3) := by decide +kernel
theorem dX11_look_9 : decode cX11_look 9 = .ok (.aload_n 0, 1) := by decide +kernel
theorem dX11_look_10 : decode cX11_look 10 = .ok (.getfield 47, 3) := by decide +kernel
theorem dX11_look_13 : decode cX11_look 13 = .ok (.aload_n 0, 1) := by decide +kernel
theorem dX11_look_14 : decode cX11_look 14 = .ok (.getfield 67, 3) := by decide +kernel
theorem dX11_look_17 : decode cX11_look 17 = .ok (.getfield 103, 3) := by decide +kernel
theorem dX11_look_20 : decode cX11_look 20 = .ok (.aload_n 0, 1) := by decide +kernel
theorem dX11_look_21 : decode cX11_look 21 = .ok (.getfield 67, 3) := by decide +kernel
theorem dX11_look_24 : decode cX11_look 24 = .ok (.getfield 108, 3) := by decide +kernel
theorem dX11_look_27 : decode cX11_look 27 = .ok (.iconst 2, 1) := by decide +kernel
theorem dX11_look_28 : decode cX11_look 28 = .ok (.invokevirtual 113, 3) := by decide +kernel
theorem dX11_look_31 : decode cX11_look 31 = .ok (.aload_n 0, 1) := by decide +kernel
theorem dX11_look_32 : decode cX11_look 32 = .ok (.getfield 67, 3) := by decide +kernel
theorem dX11_look_35 : decode cX11_look 35 = .ok (.getfield 117, 3) := by decide +kernel
theorem dX11_look_38 : decode cX11_look 38 = .ok (.aload_n 1, 1) := by decide +kernel
theorem dX11_look_39 : decode cX11_look 39 = .ok (.aconst_null, 1) := by decide +kernel
theorem dX11_look_40 : decode cX11_look 40 = .ok (.aload_n 0, 1) := by decide +kernel
theorem dX11_look_41 : decode cX11_look 41 = .ok (.getfield 32, 3) := by decide +kernel
theorem dX11_look_44 : decode cX11_look 44 = .ok (.getfield 121, 3) := by decide +kernel
theorem dX11_look_47 : decode cX11_look 47 = .ok (.invokevirtual 125, 3) := by decide +kernel
theorem dX11_look_50 : decode cX11_look 50 = .ok (.istore_n 3, 1) := by decide +kernel
theorem dX11_look_51 : decode cX11_look 51 = .ok (.iconst 0, 1) := by decide +kernel
theorem dX11_look_52 : decode cX11_look 52 = .ok (.istore 4, 2) := by decide +kernel
theorem dX11_look_54 : decode cX11_look 54 = .ok (.iload 4, 2) := by decide +kernel
theorem dX11_look_56 : decode cX11_look 56 = .ok (.iload_n 3, 1) := by decide +kernel
theorem dX11_look_57 : decode cX11_look 57 = .ok (.if_icmp .ge 43, 3) := by decide +kernel
theorem dX11_look_60 : decode cX11_look 60 = .ok (.aload_n 0, 1) := by decide +kernel
theorem dX11_look_61 : decode cX11_look 61 = .ok (.getfield 47, 3) := by decide +kernel
theorem dX11_look_64 : decode cX11_look 64 = .ok (.aload_n 0, 1) := by decide +kernel
theorem dX11_look_65 : decode cX11_look 65 = .ok (.getfield 32, 3) := by decide +kernel
theorem dX11_look_68 : decode cX11_look 68 = .ok (.getfield 121, 3) := by decide +kernel
theorem dX11_look_71 : decode cX11_look 71 = .ok (.iload 4, 2) := by decide +kernel
theorem dX11_look_73 : decode cX11_look 73 = .ok (.aaload, 1) := by decide +kernel
theorem dX11_look_74 : decode cX11_look 74 = .ok (.getfield 131, 3) := by decide +kernel
theorem dX11_look_77 : decode cX11_look 77 = .ok (.aload_n 0, 1) := by decide +kernel
theorem dX11_look_78 : decode cX11_look 78 = .ok (.getfield 32, 3) := by decide +kernel
theorem dX11_look_81 : decode cX11_look 81 = .ok (.getfield 121, 3) := by decide +kernel
theorem dX11_look_84 : decode cX11_look 84 = .ok (.iload 4, 2) := by decide +kernel
theorem dX11_look_86 : decode cX11_look 86 = .ok (.aaload, 1) := by decide +kernel
theorem dX11_look_87 : decode cX11_look 87 = .ok (.getfield 134, 3) := by decide +kernel
theorem dX11_look_90 : decode cX11_look 90 = .ok (.iconst 0, 1) := by decide +kernel
theorem dX11_look_91 : decode cX11_look 91 = .ok (.invokevirtual 113, 3) := by decide +kernel
theorem dX11_look_94 : decode cX11_look 94 = .ok (.iinc 4 1, 3) := by decide +kernel
theorem dX11_look_97 : decode cX11_look 97 = .ok (.goto (-43), 3) := by decide +kernel
theorem dX11_look_100 : decode cX11_look 100 = .ok (.iconst 1, 1) := by decide +kernel
theorem dX11_look_101 : decode cX11_look 101 = .ok (.ireturn, 1) := by decide +kernel
def b_X11_look_54 (x0 x3 x4 : Int) (M : MM) : Option ((Int × MM) ⊕ (Int × MM)) :=
  if w32 x4 < w32 x3 then
    (gfr 11 1 x0 M).bind fun v1 =>
    (gfr 11 0 x0 M).bind fun v2 =>
    (gfr 6 7 v2 M).bind fun v3 =>
    (lar 6 v3 x4 M).bind fun v4 =>
    (gfr 23 0 v4 M).bind fun v5 =>
    (gfr 11 0 x0 M).bind fun v6 =>
    (gfr 6 7 v6 M).bind fun v7 =>
    (lar 6 v7 x4 M).bind fun v8 =>
    (gfi 23 1 v8 M).bind fun v9 =>
    ck 15 v1 M <| (f_X15_add v1 v5 v9 0 M).bind fun M1 =>
    cnt (x4 + 1, M1)
  else
    xit (some (1, M))
def l_X11_look_54 (x0 x3 x4 : Int) (M : MM) : Option (Int × MM) := lpN (fun s : Int × MM => b_X11_look_54 x0 x3 s.1 s.2) FU (x4, M)
def f_X11_look (x0 x1 x2 : Int) (M : MM) : Option (Int × MM) :=
  (gfr 11 1 x0 M).bind fun v1 =>
  ck 15 v1 M <| (f_X15_begin v1 x1 x2 M).bind fun M1 =>
  (gfr 11 1 x0 M1).bind fun v2 =>
  (gfr 11 2 x0 M1).bind fun v3 =>
  (gfr 17 2 v3 M1).bind fun v4 =>
  (gfr 11 2 x0 M1).bind fun v5 =>
  (gfi 17 1 v5 M1).bind fun v6 =>
  ck 15 v2 M1 <| (f_X15_add v2 v4 v6 2 M1).bind fun M2 =>
  (gfr 11 2 x0 M2).bind fun v7 =>
  (gfr 17 5 v7 M2).bind fun v8 =>
  (gfr 11 0 x0 M2).bind fun v9 =>
  (gfr 6 7 v9 M2).bind fun v10 =>
  ck 20 v8 M2 <| (f_X20_nearest v8 x1 (-1) v10 M2).bind fun r1 =>
  l_X11_look_54 x0 r1.1 0 r1.2
theorem s_X11_look_54 {g : GG} {d : Nat} (hD : 5 ≤ d) {x0 x3 x4 : Int} {M : MM} {o : AV × MM} {P : ((Int × MM) ⊕ (Int × MM)) → Prop} (c0 : ∀ s : Int × MM, P (.inl s) → Sem g d YX11_look 54 [(1, x0), (9, 0), (9, 0), (0, x3), (0, s.1)] [] s.2 o) (r0 : ∀ r : Int × MM, P (.inr r) → o = ((0, r.1), r.2)) {z : (Int × MM) ⊕ (Int × MM)} (h : b_X11_look_54 x0 x3 x4 M = some z) (hz : P z) : Sem g d YX11_look 54 [(1, x0), (9, 0), (9, 0), (0, x3), (0, x4)] [] M o := by
  delta b_X11_look_54 at h
  refine S_iload dX11_look_54 rfl ?_
  refine S_iload_n (i := 3) dX11_look_56 rfl rfl ?_
  refine P_icmp_ge (tgt := 100) dX11_look_57 rfl h (fun h => ?_) (fun h => ?_)
  · obtain ⟨z0, h, hz⟩ := xit_some' (P := fun r => P r) h hz
    refine S_iconst dX11_look_100 rfl ?_
    obtain rfl := r0 _ (some_P (P := fun r => P (.inr r)) h hz)
    exact P_ret dX11_look_101 rfl (Or.inr ⟨rfl, Or.inr rfl⟩)
  · refine S_aload_n (i := 0) dX11_look_60 rfl rfl ?_
    refine P_gfr FLX11_47 rfl dX11_look_61 h (fun v1 h => ?_)
    refine S_aload_n (i := 0) dX11_look_64 rfl rfl ?_
    refine P_gfr FLX11_32 rfl dX11_look_65 h (fun v2 h => ?_)
    refine P_gfr FLX11_121 rfl dX11_look_68 h (fun v3 h => ?_)
    refine S_iload dX11_look_71 rfl ?_
    refine P_lar (t := 6) ⟨by decide, by decide⟩ dX11_look_73 h (fun v4 h => ?_)
    refine P_gfr FLX11_131 rfl dX11_look_74 h (fun v5 h => ?_)
    refine S_aload_n (i := 0) dX11_look_77 rfl rfl ?_
    refine P_gfr FLX11_32 rfl dX11_look_78 h (fun v6 h => ?_)
    refine P_gfr FLX11_121 rfl dX11_look_81 h (fun v7 h => ?_)
    refine S_iload dX11_look_84 rfl ?_
    refine P_lar (t := 6) ⟨by decide, by decide⟩ dX11_look_86 h (fun v8 h => ?_)
    refine P_gfi FLX11_134 rfl dX11_look_87 h (fun v9 h => ?_)
    refine S_iconst dX11_look_90 rfl ?_
    refine P_invVm' [(1, v5), (0, v9), (0, 0)] [] CVX15_add MLX11_113 dX11_look_91 rfl rfl rfl rfl (by omega) h (fun r h => F_X15_add (by omega) h) (fun M1 h => ?_)
    refine S_iinc dX11_look_94 rfl rfl rfl ?_
    change Sem g d YX11_look 97 [(1, x0), (9, 0), (9, 0), (0, x3), (0, x4 + 1)] [] M1 o
    refine S_goto (tgt := 54) dX11_look_97 rfl ?_
    exact c0 (x4 + 1, M1) (some_P (P := fun r => P r) h hz)
theorem sl_X11_look_54 {g : GG} {d : Nat} (hD : 5 ≤ d) {x0 x3 x4 : Int} {M : MM} {o : AV × MM} {P : (Int × MM) → Prop} (r0 : ∀ r : Int × MM, P r → o = ((0, r.1), r.2)) {z : Int × MM} (h : l_X11_look_54 x0 x3 x4 M = some z) (hz : P z) : Sem g d YX11_look 54 [(1, x0), (9, 0), (9, 0), (0, x3), (0, x4)] [] M o := by
  refine lp_sound (S := fun s : Int × MM => Sem g d YX11_look 54 [(1, x0), (9, 0), (9, 0), (0, x3), (0, s.1)] [] s.2 o) (P := P) ?_ FU (x4, M) z h hz
  intro s x hx hP
  exact s_X11_look_54 hD (P := Sum.elim (fun s : Int × MM => Sem g d YX11_look 54 [(1, x0), (9, 0), (9, 0), (0, x3), (0, s.1)] [] s.2 o) P) (fun s h => h) (fun s h => r0 s h) hx hP
theorem s_X11_look_0 {g : GG} {d : Nat} (hD : 5 ≤ d) {x0 x1 x2 : Int} {M : MM} {o : AV × MM} {P : (Int × MM) → Prop} (r0 : ∀ r : Int × MM, P r → o = ((0, r.1), r.2)) {z : Int × MM} (h : f_X11_look x0 x1 x2 M = some z) (hz : P z) : Sem g d YX11_look 0 [(1, x0), (1, x1), (0, x2), (9, 0), (9, 0)] [] M o := by
  delta f_X11_look at h
  refine S_aload_n (i := 0) dX11_look_0 rfl rfl ?_
  refine P_gfr FLX11_47 rfl dX11_look_1 h (fun v1 h => ?_)
  refine S_aload_n (i := 1) dX11_look_4 rfl rfl ?_
  refine S_iload_n (i := 2) dX11_look_5 rfl rfl ?_
  refine P_invVm' [(1, x1), (0, x2)] [] CVX15_begin MLX11_100 dX11_look_6 rfl rfl rfl rfl (by omega) h (fun r h => F_X15_begin (by omega) h) (fun M1 h => ?_)
  refine S_aload_n (i := 0) dX11_look_9 rfl rfl ?_
  refine P_gfr FLX11_47 rfl dX11_look_10 h (fun v2 h => ?_)
  refine S_aload_n (i := 0) dX11_look_13 rfl rfl ?_
  refine P_gfr FLX11_67 rfl dX11_look_14 h (fun v3 h => ?_)
  refine P_gfr FLX11_103 rfl dX11_look_17 h (fun v4 h => ?_)
  refine S_aload_n (i := 0) dX11_look_20 rfl rfl ?_
  refine P_gfr FLX11_67 rfl dX11_look_21 h (fun v5 h => ?_)
  refine P_gfi FLX11_108 rfl dX11_look_24 h (fun v6 h => ?_)
  refine S_iconst dX11_look_27 rfl ?_
  refine P_invVm' [(1, v4), (0, v6), (0, 2)] [] CVX15_add MLX11_113 dX11_look_28 rfl rfl rfl rfl (by omega) h (fun r h => F_X15_add (by omega) h) (fun M2 h => ?_)
  refine S_aload_n (i := 0) dX11_look_31 rfl rfl ?_
  refine P_gfr FLX11_67 rfl dX11_look_32 h (fun v7 h => ?_)
  refine P_gfr FLX11_117 rfl dX11_look_35 h (fun v8 h => ?_)
  refine S_aload_n (i := 1) dX11_look_38 rfl rfl ?_
  refine S_null dX11_look_39 ?_
  refine S_aload_n (i := 0) dX11_look_40 rfl rfl ?_
  refine P_gfr FLX11_32 rfl dX11_look_41 h (fun v9 h => ?_)
  refine P_gfr FLX11_121 rfl dX11_look_44 h (fun v10 h => ?_)
  refine P_invVe 0 [(1, x1), (1, (-1)), (1, v10)] [] CVX20_nearest MLX11_125 dX11_look_47 rfl rfl rfl rfl rfl (by omega) h (fun r h => F_X20_nearest (by omega) h) (fun r1 h => ?_)
  refine S_istore_n (i := 3) dX11_look_50 rfl (Nat.le_of_ble_eq_true rfl) rfl rfl ?_
  change Sem g d YX11_look 51 [(1, x0), (1, x1), (0, x2), (0, r1.1), (9, 0)] [] r1.2 o
  refine S_iconst dX11_look_51 rfl ?_
  refine S_istore dX11_look_52 (Nat.le_of_ble_eq_true rfl) rfl rfl ?_
  change Sem g d YX11_look 54 [(1, x0), (1, x1), (0, x2), (0, r1.1), (0, 0)] [] r1.2 o
  refine S_weak (ls' := [(1, x0), (9, 0), (9, 0), (0, r1.1), (0, 0)]) ⟨Or.inr rfl, ⟨Or.inl rfl, ⟨Or.inl rfl, ⟨Or.inr rfl, ⟨Or.inr rfl, trivial⟩⟩⟩⟩⟩ ?_
  exact sl_X11_look_54 hD r0 h hz
theorem F_X11_look {g : GG} {d : Nat} (hD : 5 ≤ d) {x0 x1 x2 : Int} {M : MM} {r : Int × MM} (h : f_X11_look x0 x1 x2 M = some r) : Sem g d YX11_look 0 (ini YX11_look [(1, x0), (1, x1), (0, x2)]) [] M ((0, r.1), r.2) := by
  change Sem g d YX11_look 0 [(1, x0), (1, x1), (0, x2), (9, 0), (9, 0)] [] M ((0, r.1), r.2)
  exact s_X11_look_0 hD (P := fun x => x = r) (fun q e => by rw [e]) h rfl
/-! PeerSearch$Asking.begin(LPeerSearch$Work;)Z -/
theorem dX31_begin_0 : decode cX31_begin 0 = .ok (.aload_n 0, 1) := by decide +kernel
theorem dX31_begin_1 : decode cX31_begin 1 = .ok (.iconst 0, 1) := by decide +kernel
theorem dX31_begin_2 : decode cX31_begin 2 = .ok (.putfield 76, 3) := by decide +kernel
theorem dX31_begin_5 : decode cX31_begin 5 = .ok (.aload_n 0, 1) := by decide +kernel
theorem dX31_begin_6 : decode cX31_begin 6 = .ok (.iconst 0, 1) := by decide +kernel
theorem dX31_begin_7 : decode cX31_begin 7 = .ok (.putfield 79, 3) := by decide +kernel
theorem dX31_begin_10 : decode cX31_begin 10 = .ok (.aload_n 0, 1) := by decide +kernel
theorem dX31_begin_11 : decode cX31_begin 11 = .ok (.iconst 0, 1) := by decide +kernel
theorem dX31_begin_12 : decode cX31_begin 12 = .ok (.putfield 82, 3) := by decide +kernel
theorem dX31_begin_15 : decode cX31_begin 15 = .ok (.aload_n 0, 1) := by decide +kernel
theorem dX31_begin_16 : decode cX31_begin 16 = .ok (.iconst 0, 1) := by decide +kernel
theorem dX31_begin_17 : decode cX31_begin 17 = .ok (.putfield 85, 3) := by decide +kernel
theorem dX31_begin_20 : decode cX31_begin 20 = .ok (.aload_n 1, 1) := by decide +kernel
theorem dX31_begin_21 : decode cX31_begin 21 = .ok (.aload_n 0, 1) := by decide +kernel
theorem dX31_begin_22 : decode cX31_begin 22 = .ok (.getfield 11, 3) := by decide +kernel
theorem dX31_begin_25 : decode cX31_begin 25 = .ok (.iconst 0, 1) := by decide +kernel
theorem dX31_begin_26 : decode cX31_begin 26 = .ok (.aaload, 1) := by decide +kernel
theorem dX31_begin_27 : decode cX31_begin 27 = .ok (.iconst 1, 1) := by decide +kernel
theorem dX31_begin_28 : decode cX31_begin 28 = .ok (.invokevirtual 88, 3) := by decide +kernel
theorem dX31_begin_31 : decode cX31_begin 31 = .ok (.ireturn, 1) := by decide +kernel
def f_X31_begin (x0 x1 : Int) (M : MM) : Option (Int × MM) :=
  (pfi 31 6 x0 0 M).bind fun M1 =>
  (pfi 31 13 x0 0 M1).bind fun M2 =>
  (pfi 31 14 x0 0 M2).bind fun M3 =>
  (pfi 31 15 x0 0 M3).bind fun M4 =>
  (gfr 31 0 x0 M4).bind fun v1 =>
  (lar 13 v1 0 M4).bind fun v2 =>
  ck 11 x1 M4 <| (f_X11_look x1 v2 1 M4).bind fun r1 =>
  bz r1.1 (some (r1.1, r1.2))
theorem s_X31_begin_0 {g : GG} {d : Nat} (hD : 6 ≤ d) {x0 x1 : Int} {M : MM} {o : AV × MM} {P : (Int × MM) → Prop} (r0 : ∀ r : Int × MM, P r → o = ((0, r.1), r.2)) {z : Int × MM} (h : f_X31_begin x0 x1 M = some z) (hz : P z) : Sem g d YX31_begin 0 [(1, x0), (1, x1)] [] M o := by
  delta f_X31_begin at h
  refine S_aload_n (i := 0) dX31_begin_0 rfl rfl ?_
  refine S_iconst dX31_begin_1 rfl ?_
  refine P_pfi FLX31_76 FPX31_76 rfl dX31_begin_2 h (fun M1 h => ?_)
  refine S_aload_n (i := 0) dX31_begin_5 rfl rfl ?_
  refine S_iconst dX31_begin_6 rfl ?_
  refine P_pfi FLX31_79 FPX31_79 rfl dX31_begin_7 h (fun M2 h => ?_)
  refine S_aload_n (i := 0) dX31_begin_10 rfl rfl ?_
  refine S_iconst dX31_begin_11 rfl ?_
  refine P_pfi FLX31_82 FPX31_82 rfl dX31_begin_12 h (fun M3 h => ?_)
  refine S_aload_n (i := 0) dX31_begin_15 rfl rfl ?_
  refine S_iconst dX31_begin_16 rfl ?_
  refine P_pfi FLX31_85 FPX31_85 rfl dX31_begin_17 h (fun M4 h => ?_)
  refine S_aload_n (i := 1) dX31_begin_20 rfl rfl ?_
  refine S_aload_n (i := 0) dX31_begin_21 rfl rfl ?_
  refine P_gfr FLX31_11 rfl dX31_begin_22 h (fun v1 h => ?_)
  refine S_iconst dX31_begin_25 rfl ?_
  refine P_lar (t := 13) ⟨by decide, by decide⟩ dX31_begin_26 h (fun v2 h => ?_)
  refine S_iconst dX31_begin_27 rfl ?_
  refine P_invVe 0 [(1, v2), (0, 1)] [] CVX11_look MLX31_88 dX31_begin_28 rfl rfl rfl rfl rfl (by omega) h (fun r h => F_X11_look (by omega) h) (fun r1 h => ?_)
  obtain ⟨hb, h⟩ := bz_some h
  obtain rfl := r0 _ (some_P (P := fun r => P r) h hz)
  exact P_ret dX31_begin_31 rfl (Or.inr ⟨rfl, hb⟩)
theorem F_X31_begin {g : GG} {d : Nat} (hD : 6 ≤ d) {x0 x1 : Int} {M : MM} {r : Int × MM} (h : f_X31_begin x0 x1 M = some r) : Sem g d YX31_begin 0 (ini YX31_begin [(1, x0), (1, x1)]) [] M ((0, r.1), r.2) := by
  change Sem g d YX31_begin 0 [(1, x0), (1, x1)] [] M ((0, r.1), r.2)
  exact s_X31_begin_0 hD (P := fun x => x = r) (fun q e => by rw [e]) h rfl
/-! PeerSearch$Key.turn(I)V -/
theorem dX3_turn_0 : decode cX3_turn 0 = .ok (.aload_n 0, 1) := by decide +kernel
theorem dX3_turn_1 : decode cX3_turn 1 = .ok (.getfield 9, 3) := by decide +kernel
theorem dX3_turn_4 : decode cX3_turn 4 = .ok (.iload_n 1, 1) := by decide +kernel
theorem dX3_turn_5 : decode cX3_turn 5 = .ok (.bipush 32, 2) := by decide +kernel
theorem dX3_turn_7 : decode cX3_turn 7 = .ok (.idiv, 1) := by decide +kernel
theorem dX3_turn_8 : decode cX3_turn 8 = .ok (.dup2, 1) := by decide +kernel
theorem dX3_turn_9 : decode cX3_turn 9 = .ok (.iaload, 1) := by decide +kernel
theorem dX3_turn_10 : decode cX3_turn 10 = .ok (.iconst 1, 1) := by decide +kernel
theorem dX3_turn_11 : decode cX3_turn 11 = .ok (.bipush 31, 2) := by decide +kernel
theorem dX3_turn_13 : decode cX3_turn 13 = .ok (.iload_n 1, 1) := by decide +kernel
theorem dX3_turn_14 : decode cX3_turn 14 = .ok (.bipush 32, 2) := by decide +kernel
theorem dX3_turn_16 : decode cX3_turn 16 = .ok (.irem, 1) := by decide +kernel
theorem dX3_turn_17 : decode cX3_turn 17 = .ok (.isub, 1) := by decide +kernel
theorem dX3_turn_18 : decode cX3_turn 18 = .ok (.ishl, 1) := by decide +kernel
theorem dX3_turn_19 : decode cX3_turn 19 = .ok (.ixor, 1) := by decide +kernel
theorem dX3_turn_20 : decode cX3_turn 20 = .ok (.iastore, 1) := by decide +kernel
theorem dX3_turn_21 : decode cX3_turn 21 = .ok (.return_, 1) := by decide +kernel
def f_X3_turn (x0 x1 : Int) (M : MM) : Option (MM) :=
  (gfr 3 0 x0 M).bind fun v1 =>
  (dvi x1 32).bind fun v2 =>
  (lai v1 v2 M).bind fun v3 =>
  (rmi x1 32).bind fun v4 =>
  (sai v1 v2 (bxor v3 (bshl 1 (31 - v4))) M).bind fun M1 =>
  some M1
theorem s_X3_turn_0 {g : GG} {d : Nat} (hD : 0 ≤ d) {x0 x1 : Int} {M : MM} {o : AV × MM} {P : (MM) → Prop} (r0 : ∀ r : MM, P r → o = ((9, 0), r)) {z : MM} (h : f_X3_turn x0 x1 M = some z) (hz : P z) : Sem g d YX3_turn 0 [(1, x0), (0, x1)] [] M o := by
  delta f_X3_turn at h
  refine S_aload_n (i := 0) dX3_turn_0 rfl rfl ?_
  refine P_gfr FLX3_9 rfl dX3_turn_1 h (fun v1 h => ?_)
  refine S_iload_n (i := 1) dX3_turn_4 rfl rfl ?_
  refine S_bipush (z := 32) dX3_turn_5 rfl ?_
  refine P_dvi dX3_turn_7 h (fun v2 h => ?_)
  refine S_dup2 dX3_turn_8 (Nat.le_of_ble_eq_true rfl) (Nat.le_of_ble_eq_true rfl) ?_
  refine P_lai dX3_turn_9 h (fun v3 h => ?_)
  refine S_iconst dX3_turn_10 rfl ?_
  refine S_bipush (z := 31) dX3_turn_11 rfl ?_
  refine S_iload_n (i := 1) dX3_turn_13 rfl rfl ?_
  refine S_bipush (z := 32) dX3_turn_14 rfl ?_
  refine P_rmi dX3_turn_16 h (fun v4 h => ?_)
  refine S_isub dX3_turn_17 ?_
  refine S_ishl dX3_turn_18 ?_
  refine S_ixor dX3_turn_19 ?_
  refine P_sai dX3_turn_20 h (fun M1 h => ?_)
  obtain rfl := r0 _ (some_P (P := fun r => P r) h hz)
  exact S_return dX3_turn_21 rfl
theorem F_X3_turn {g : GG} {d : Nat} (hD : 0 ≤ d) {x0 x1 : Int} {M : MM} {r : MM} (h : f_X3_turn x0 x1 M = some r) : Sem g d YX3_turn 0 (ini YX3_turn [(1, x0), (0, x1)]) [] M ((9, 0), r) := by
  change Sem g d YX3_turn 0 [(1, x0), (0, x1)] [] M ((9, 0), r)
  exact s_X3_turn_0 hD (P := fun x => x = r) (fun q e => by rw [e]) h rfl
/-! PeerSearch$Joining.goes(LPeerSearch$Work;)Z -/
theorem dX13_goes_0 : decode cX13_goes 0 = .ok (.aload_n 0, 1) := by decide +kernel
theorem dX13_goes_1 : decode cX13_goes 1 = .ok (.getfield 33, 3) := by decide +kernel
theorem dX13_goes_4 : decode cX13_goes 4 = .ok (.aload_n 0, 1) := by decide +kernel
theorem dX13_goes_5 : decode cX13_goes 5 = .ok (.getfield 47, 3) := by decide +kernel
theorem dX13_goes_8 : decode cX13_goes 8 = .ok (.if_icmp .le 10, 3) := by decide +kernel
theorem dX13_goes_11 : decode cX13_goes 11 = .ok (.aload_n 1, 1) := by decide +kernel
theorem dX13_goes_12 : decode cX13_goes 12 = .ok (.iconst 1, 1) := by decide +kernel
theorem dX13_goes_13 : decode cX13_goes 13 = .ok (.invokevirtual 55, 3) := by decide +kernel
theorem dX13_goes_16 : decode cX13_goes 16 = .ok (.iconst 0, 1) := by decide +kernel
theorem dX13_goes_17 : decode cX13_goes 17 = .ok (.ireturn, 1) := by decide +kernel
theorem dX13_goes_18 : decode cX13_goes 18 = .ok (.aload_n 1, 1) := by decide +kernel
theorem dX13_goes_19 : decode cX13_goes 19 = .ok (.getfield 59, 3) := by decide +kernel
theorem dX13_goes_22 : decode cX13_goes 22 = .ok (.aload_n 1, 1) := by decide +kernel
theorem dX13_goes_23 : decode cX13_goes 23 = .ok (.getfield 13, 3) := by decide +kernel
theorem dX13_goes_26 : decode cX13_goes 26 = .ok (.getfield 19, 3) := by decide +kernel
theorem dX13_goes_29 : decode cX13_goes 29 = .ok (.invokevirtual 62, 3) := by decide +kernel
theorem dX13_goes_32 : decode cX13_goes 32 = .ok (.aload_n 1, 1) := by decide +kernel
theorem dX13_goes_33 : decode cX13_goes 33 = .ok (.getfield 59, 3) := by decide +kernel
theorem dX13_goes_36 : decode cX13_goes 36 = .ok (.aload_n 0, 1) := by decide +kernel
theorem dX13_goes_37 : decode cX13_goes 37 = .ok (.getfield 33, 3) := by decide +kernel
theorem dX13_goes_40 : decode cX13_goes 40 = .ok (.invokevirtual 68, 3) := by decide +kernel
theorem dX13_goes_43 : decode cX13_goes 43 = .ok (.aload_n 1, 1) := by decide +kernel
theorem dX13_goes_44 : decode cX13_goes 44 = .ok (.aload_n 1, 1) := by decide +kernel
theorem dX13_goes_45 : decode cX13_goes 45 = .ok (.getfield 59, 3) := by decide +kernel
theorem dX13_goes_48 : decode cX13_goes 48 = .ok (.iconst 0, 1) := by decide +kernel
theorem dX13_goes_49 : decode cX13_goes 49 = .ok (.invokevirtual 25, 3) := by decide +kernel
theorem dX13_goes_52 : decode cX13_goes 52 = .ok (.ireturn, 1) := by decide +kernel
def f_X13_goes (x0 x1 : Int) (M : MM) : Option (Int × MM) :=
  (gfi 13 1 x0 M).bind fun v1 =>
  (gfi 13 2 x0 M).bind fun v2 =>
  if w32 v2 < w32 v1 then
    ck 11 x1 M <| (f_X11_end x1 1 M).bind fun M3 =>
    some (0, M3)
  else
    (gfr 11 7 x1 M).bind fun v3 =>
    (gfr 11 2 x1 M).bind fun v4 =>
    (gfr 17 2 v4 M).bind fun v5 =>
    ck 3 v3 M <| (f_X3_set v3 v5 M).bind fun M1 =>
    (gfr 11 7 x1 M1).bind fun v6 =>
    (gfi 13 1 x0 M1).bind fun v7 =>
    ck 3 v6 M1 <| (f_X3_turn v6 v7 M1).bind fun M2 =>
    (gfr 11 7 x1 M2).bind fun v8 =>
    ck 11 x1 M2 <| (f_X11_look x1 v8 0 M2).bind fun r1 =>
    bz r1.1 (some (r1.1, r1.2))
theorem s_X13_goes_0 {g : GG} {d : Nat} (hD : 6 ≤ d) {x0 x1 : Int} {M : MM} {o : AV × MM} {P : (Int × MM) → Prop} (r0 : ∀ r : Int × MM, P r → o = ((0, r.1), r.2)) {z : Int × MM} (h : f_X13_goes x0 x1 M = some z) (hz : P z) : Sem g d YX13_goes 0 [(1, x0), (1, x1)] [] M o := by
  delta f_X13_goes at h
  refine S_aload_n (i := 0) dX13_goes_0 rfl rfl ?_
  refine P_gfi FLX13_33 rfl dX13_goes_1 h (fun v1 h => ?_)
  refine S_aload_n (i := 0) dX13_goes_4 rfl rfl ?_
  refine P_gfi FLX13_47 rfl dX13_goes_5 h (fun v2 h => ?_)
  refine P_icmp_le (tgt := 18) dX13_goes_8 rfl h (fun h => ?_) (fun h => ?_)
  · refine S_aload_n (i := 1) dX13_goes_18 rfl rfl ?_
    refine P_gfr FLX13_59 rfl dX13_goes_19 h (fun v3 h => ?_)
    refine S_aload_n (i := 1) dX13_goes_22 rfl rfl ?_
    refine P_gfr FLX13_13 rfl dX13_goes_23 h (fun v4 h => ?_)
    refine P_gfr FLX13_19 rfl dX13_goes_26 h (fun v5 h => ?_)
    refine P_invVm' [(1, v5)] [] CVX3_set MLX13_62 dX13_goes_29 rfl rfl rfl rfl (by omega) h (fun r h => F_X3_set (by omega) h) (fun M1 h => ?_)
    refine S_aload_n (i := 1) dX13_goes_32 rfl rfl ?_
    refine P_gfr FLX13_59 rfl dX13_goes_33 h (fun v6 h => ?_)
    refine S_aload_n (i := 0) dX13_goes_36 rfl rfl ?_
    refine P_gfi FLX13_33 rfl dX13_goes_37 h (fun v7 h => ?_)
    refine P_invVm' [(0, v7)] [] CVX3_turn MLX13_68 dX13_goes_40 rfl rfl rfl rfl (by omega) h (fun r h => F_X3_turn (by omega) h) (fun M2 h => ?_)
    refine S_aload_n (i := 1) dX13_goes_43 rfl rfl ?_
    refine S_aload_n (i := 1) dX13_goes_44 rfl rfl ?_
    refine P_gfr FLX13_59 rfl dX13_goes_45 h (fun v8 h => ?_)
    refine S_iconst dX13_goes_48 rfl ?_
    refine P_invVe 0 [(1, v8), (0, 0)] [] CVX11_look MLX13_25 dX13_goes_49 rfl rfl rfl rfl rfl (by omega) h (fun r h => F_X11_look (by omega) h) (fun r1 h => ?_)
    obtain ⟨hb, h⟩ := bz_some h
    obtain rfl := r0 _ (some_P (P := fun r => P r) h hz)
    exact P_ret dX13_goes_52 rfl (Or.inr ⟨rfl, hb⟩)
  · refine S_aload_n (i := 1) dX13_goes_11 rfl rfl ?_
    refine S_iconst dX13_goes_12 rfl ?_
    refine P_invVm' [(0, 1)] [] CVX11_end MLX13_55 dX13_goes_13 rfl rfl rfl rfl (by omega) h (fun r h => F_X11_end (by omega) h) (fun M3 h => ?_)
    refine S_iconst dX13_goes_16 rfl ?_
    obtain rfl := r0 _ (some_P (P := fun r => P r) h hz)
    exact P_ret dX13_goes_17 rfl (Or.inr ⟨rfl, Or.inl rfl⟩)
theorem F_X13_goes {g : GG} {d : Nat} (hD : 6 ≤ d) {x0 x1 : Int} {M : MM} {r : Int × MM} (h : f_X13_goes x0 x1 M = some r) : Sem g d YX13_goes 0 (ini YX13_goes [(1, x0), (1, x1)]) [] M ((0, r.1), r.2) := by
  change Sem g d YX13_goes 0 [(1, x0), (1, x1)] [] M ((0, r.1), r.2)
  exact s_X13_goes_0 hD (P := fun x => x = r) (fun q e => by rw [e]) h rfl
/-! PeerSearch$Table.closest()I -/
theorem dX20_closest_0 : decode cX20_closest 0 = .ok (.iconst (-1), 1) := by decide +kernel
theorem dX20_closest_1 : decode cX20_closest 1 = .ok (.istore_n 1, 1) := by decide +kernel
theorem dX20_closest_2 : decode cX20_closest 2 = .ok (.iconst 0, 1) := by decide +kernel
theorem dX20_closest_3 : decode cX20_closest 3 = .ok (.istore_n 2, 1) := by decide +kernel
theorem dX20_closest_4 : decode cX20_closest 4 = .ok (.iload_n 2, 1) := by decide +kernel
theorem dX20_closest_5 : decode cX20_closest 5 = .ok (.aload_n 0, 1) := by decide +kernel
theorem dX20_closest_6 : decode cX20_closest 6 = .ok (.getfield 34, 3) := by decide +kernel
theorem dX20_closest_9 : decode cX20_closest 9 = .ok (.if_icmp .ge 59, 3) := by decide +kernel
theorem dX20_closest_12 : decode cX20_closest 12 = .ok (.aload_n 0, 1) := by decide +kernel
theorem dX20_closest_13 : decode cX20_closest 13 = .ok (.getfield 13, 3) := by decide +kernel
theorem dX20_closest_16 : decode cX20_closest 16 = .ok (.iload_n 2, 1) := by decide +kernel
theorem dX20_closest_17 : decode cX20_closest 17 = .ok (.aaload, 1) := by decide +kernel
theorem dX20_closest_18 : decode cX20_closest 18 = .ok (.getfield 59, 3) := by decide +kernel
theorem dX20_closest_21 : decode cX20_closest 21 = .ok (.astore_n 3, 1) := by decide +kernel
theorem dX20_closest_22 : decode cX20_closest 22 = .ok (.iconst 0, 1) := by decide +kernel
theorem dX20_closest_23 : decode cX20_closest 23 = .ok (.istore 4, 2) := by decide +kernel
theorem dX20_closest_25 : decode cX20_closest 25 = .ok (.iload 4, 2) := by decide +kernel
theorem dX20_closest_27 : decode cX20_closest 27 = .ok (.aload_n 3, 1) := by decide +kernel
theorem dX20_closest_28 : decode cX20_closest 28 = .ok (.getfield 44, 3) := by decide +kernel
theorem dX20_closest_31 : decode cX20_closest 31 = .ok (.if_icmp .ge 31, 3) := by decide +kernel
theorem dX20_closest_34 : decode cX20_closest 34 = .ok (.iload_n 1, 1) := by decide +kernel
theorem dX20_closest_35 : decode cX20_closest 35 = .ok (.aload_n 0, 1) := by decide +kernel
theorem dX20_closest_36 : decode cX20_closest 36 = .ok (.getfield 19, 3) := by decide +kernel
theorem dX20_closest_39 : decode cX20_closest 39 = .ok (.aload_n 3, 1) := by decide +kernel
theorem dX20_closest_40 : decode cX20_closest 40 = .ok (.getfield 74, 3) := by decide +kernel
theorem dX20_closest_43 : decode cX20_closest 43 = .ok (.iload 4, 2) := by decide +kernel
theorem dX20_closest_45 : decode cX20_closest 45 = .ok (.aaload, 1) := by decide +kernel
theorem dX20_closest_46 : decode cX20_closest 46 = .ok (.getfield 78, 3) := by decide +kernel
theorem dX20_closest_49 : decode cX20_closest 49 = .ok (.invokevirtual 83, 3) := by decide +kernel
theorem dX20_closest_52 : decode cX20_closest 52 = .ok (.invokestatic 121, 3) := by decide +kernel
theorem dX20_closest_55 : decode cX20_closest 55 = .ok (.istore_n 1, 1) := by decide +kernel
theorem dX20_closest_56 : decode cX20_closest 56 = .ok (.iinc 4 1, 3) := by decide +kernel
theorem dX20_closest_59 : decode cX20_closest 59 = .ok (.goto (-34), 3) := by decide +kernel
theorem dX20_closest_62 : decode cX20_closest 62 = .ok (.iinc 2 1, 3) := by decide +kernel
theorem dX20_closest_65 : decode cX20_closest 65 = .ok (.goto (-61), 3) := by decide +kernel
theorem dX20_closest_68 : decode cX20_closest 68 = .ok (.iload_n 1, 1) := by decide +kernel
theorem dX20_closest_69 : decode cX20_closest 69 = .ok (.ireturn, 1) := by decide +kernel
def j_X20_closest_62 (x0 x1 x2 : Int) (M : MM) : Option ((Int × Int) ⊕ (Int)) :=
  cnt (x1, x2 + 1)
def b_X20_closest_25 (x0 x1 x2 x3 x4 : Int) (M : MM) : Option ((Int × Int) ⊕ ((Int × Int) ⊕ (Int))) :=
  (gfi 22 1 x3 M).bind fun v1 =>
  if w32 x4 < w32 v1 then
    (gfr 20 0 x0 M).bind fun v2 =>
    (gfr 22 0 x3 M).bind fun v3 =>
    (lar 6 v3 x4 M).bind fun v4 =>
    (gfr 23 0 v4 M).bind fun v5 =>
    ck 3 v2 M <| (f_X3_common v2 v5 M).bind fun v6 =>
    cnt (jmax x1 v6, x4 + 1)
  else
    xit (j_X20_closest_62 x0 x1 x2 M)
def l_X20_closest_25 (x0 x1 x2 x3 x4 : Int) (M : MM) : Option ((Int × Int) ⊕ (Int)) := lpN (fun s : Int × Int => b_X20_closest_25 x0 s.1 x2 x3 s.2 M) FU (x1, x4)
def b_X20_closest_4 (x0 x1 x2 : Int) (M : MM) : Option ((Int × Int) ⊕ (Int)) :=
  (gfi 20 4 x0 M).bind fun v1 =>
  if w32 x2 < w32 v1 then
    (gfr 20 3 x0 M).bind fun v2 =>
    (lar 12 v2 x2 M).bind fun v3 =>
    (gfr 21 0 v3 M).bind fun v4 =>
    l_X20_closest_25 x0 x1 x2 v4 0 M
  else
    xit (some x1)
def l_X20_closest_4 (x0 x1 x2 : Int) (M : MM) : Option (Int) := lpN (fun s : Int × Int => b_X20_closest_4 x0 s.1 s.2 M) FU (x1, x2)
def f_X20_closest (x0 : Int) (M : MM) : Option (Int) :=
  l_X20_closest_4 x0 (-1) 0 M
theorem s_X20_closest_62 {g : GG} {d : Nat} (hD : 2 ≤ d) {x0 x1 x2 : Int} {M : MM} {o : AV × MM} {P : ((Int × Int) ⊕ (Int)) → Prop} (c0 : ∀ s : Int × Int, P (.inl s) → Sem g d YX20_closest 4 [(1, x0), (0, s.1), (0, s.2), (9, 0), (9, 0)] [] M o) (r0 : ∀ r : Int, P (.inr r) → o = ((0, r), M)) {z : (Int × Int) ⊕ (Int)} (h : j_X20_closest_62 x0 x1 x2 M = some z) (hz : P z) : Sem g d YX20_closest 62 [(1, x0), (0, x1), (0, x2), (9, 0), (9, 0)] [] M o := by
  delta j_X20_closest_62 at h
  refine S_iinc dX20_closest_62 rfl rfl rfl ?_
  change Sem g d YX20_closest 65 [(1, x0), (0, x1), (0, x2 + 1), (9, 0), (9, 0)] [] M o
  refine S_goto (tgt := 4) dX20_closest_65 rfl ?_
  exact c0 (x1, x2 + 1) (some_P (P := fun r => P r) h hz)
theorem s_X20_closest_25 {g : GG} {d : Nat} (hD : 2 ≤ d) {x0 x1 x2 x3 x4 : Int} {M : MM} {o : AV × MM} {P : ((Int × Int) ⊕ ((Int × Int) ⊕ (Int))) → Prop} (c1 : ∀ s : Int × Int, P (.inl s) → Sem g d YX20_closest 25 [(1, x0), (0, s.1), (0, x2), (1, x3), (0, s.2)] [] M o) (c0 : ∀ s : Int × Int, P (.inr (.inl s)) → Sem g d YX20_closest 4 [(1, x0), (0, s.1), (0, s.2), (9, 0), (9, 0)] [] M o) (r0 : ∀ r : Int, P (.inr (.inr r)) → o = ((0, r), M)) {z : (Int × Int) ⊕ ((Int × Int) ⊕ (Int))} (h : b_X20_closest_25 x0 x1 x2 x3 x4 M = some z) (hz : P z) : Sem g d YX20_closest 25 [(1, x0), (0, x1), (0, x2), (1, x3), (0, x4)] [] M o := by
  delta b_X20_closest_25 at h
  refine S_iload dX20_closest_25 rfl ?_
  refine S_aload_n (i := 3) dX20_closest_27 rfl rfl ?_
  refine P_gfi FLX20_44 rfl dX20_closest_28 h (fun v1 h => ?_)
  refine P_icmp_ge (tgt := 62) dX20_closest_31 rfl h (fun h => ?_) (fun h => ?_)
  · refine S_weak (ls' := [(1, x0), (0, x1), (0, x2), (9, 0), (9, 0)]) ⟨Or.inr rfl, ⟨Or.inr rfl, ⟨Or.inr rfl, ⟨Or.inl rfl, ⟨Or.inl rfl, trivial⟩⟩⟩⟩⟩ ?_
    obtain ⟨z0, h, hz⟩ := xit_some' (P := fun r => P r) h hz
    exact s_X20_closest_62 hD (P := fun r => P (.inr r)) c0 r0 h hz
  · refine S_iload_n (i := 1) dX20_closest_34 rfl rfl ?_
    refine S_aload_n (i := 0) dX20_closest_35 rfl rfl ?_
    refine P_gfr FLX20_19 rfl dX20_closest_36 h (fun v2 h => ?_)
    refine S_aload_n (i := 3) dX20_closest_39 rfl rfl ?_
    refine P_gfr FLX20_74 rfl dX20_closest_40 h (fun v3 h => ?_)
    refine S_iload dX20_closest_43 rfl ?_
    refine P_lar (t := 6) ⟨by decide, by decide⟩ dX20_closest_45 h (fun v4 h => ?_)
    refine P_gfr FLX20_78 rfl dX20_closest_46 h (fun v5 h => ?_)
    refine P_invVp 0 [(1, v5)] [(0, x1)] CVX3_common MLX20_83 dX20_closest_49 rfl rfl rfl rfl rfl (by omega) h (fun r h => F_X3_common (by omega) h) (fun v6 h => ?_)
    refine S_max q1324 dX20_closest_52 rfl (by omega) ?_
    refine S_istore_n (i := 1) dX20_closest_55 rfl (Nat.le_of_ble_eq_true rfl) rfl rfl ?_
    change Sem g d YX20_closest 56 [(1, x0), (0, jmax x1 v6), (0, x2), (1, x3), (0, x4)] [] M o
    refine S_iinc dX20_closest_56 rfl rfl rfl ?_
    change Sem g d YX20_closest 59 [(1, x0), (0, jmax x1 v6), (0, x2), (1, x3), (0, x4 + 1)] [] M o
    refine S_goto (tgt := 25) dX20_closest_59 rfl ?_
    exact c1 (jmax x1 v6, x4 + 1) (some_P (P := fun r => P r) h hz)
theorem sl_X20_closest_25 {g : GG} {d : Nat} (hD : 2 ≤ d) {x0 x1 x2 x3 x4 : Int} {M : MM} {o : AV × MM} {P : ((Int × Int) ⊕ (Int)) → Prop} (c0 : ∀ s : Int × Int, P (.inl s) → Sem g d YX20_closest 4 [(1, x0), (0, s.1), (0, s.2), (9, 0), (9, 0)] [] M o) (r0 : ∀ r : Int, P (.inr r) → o = ((0, r), M)) {z : (Int × Int) ⊕ (Int)} (h : l_X20_closest_25 x0 x1 x2 x3 x4 M = some z) (hz : P z) : Sem g d YX20_closest 25 [(1, x0), (0, x1), (0, x2), (1, x3), (0, x4)] [] M o := by
  refine lp_sound (S := fun s : Int × Int => Sem g d YX20_closest 25 [(1, x0), (0, s.1), (0, x2), (1, x3), (0, s.2)] [] M o) (P := P) ?_ FU (x1, x4) z h hz
  intro s x hx hP
  exact s_X20_closest_25 hD (P := Sum.elim (fun s : Int × Int => Sem g d YX20_closest 25 [(1, x0), (0, s.1), (0, x2), (1, x3), (0, s.2)] [] M o) P) (fun s h => h) (fun s h => c0 s h) (fun s h => r0 s h) hx hP
theorem s_X20_closest_4 {g : GG} {d : Nat} (hD : 2 ≤ d) {x0 x1 x2 : Int} {M : MM} {o : AV × MM} {P : ((Int × Int) ⊕ (Int)) → Prop} (c0 : ∀ s : Int × Int, P (.inl s) → Sem g d YX20_closest 4 [(1, x0), (0, s.1), (0, s.2), (9, 0), (9, 0)] [] M o) (r0 : ∀ r : Int, P (.inr r) → o = ((0, r), M)) {z : (Int × Int) ⊕ (Int)} (h : b_X20_closest_4 x0 x1 x2 M = some z) (hz : P z) : Sem g d YX20_closest 4 [(1, x0), (0, x1), (0, x2), (9, 0), (9, 0)] [] M o := by
  delta b_X20_closest_4 at h
  refine S_iload_n (i := 2) dX20_closest_4 rfl rfl ?_
  refine S_aload_n (i := 0) dX20_closest_5 rfl rfl ?_
  refine P_gfi FLX20_34 rfl dX20_closest_6 h (fun v1 h => ?_)
  refine P_icmp_ge (tgt := 68) dX20_closest_9 rfl h (fun h => ?_) (fun h => ?_)
  · obtain ⟨z0, h, hz⟩ := xit_some' (P := fun r => P r) h hz
    refine S_iload_n (i := 1) dX20_closest_68 rfl rfl ?_
    obtain rfl := r0 _ (some_P (P := fun r => P (.inr r)) h hz)
    exact P_ret dX20_closest_69 rfl (Or.inl rfl)
  · refine S_aload_n (i := 0) dX20_closest_12 rfl rfl ?_
    refine P_gfr FLX20_13 rfl dX20_closest_13 h (fun v2 h => ?_)
    refine S_iload_n (i := 2) dX20_closest_16 rfl rfl ?_
    refine P_lar (t := 12) ⟨by decide, by decide⟩ dX20_closest_17 h (fun v3 h => ?_)
    refine P_gfr FLX20_59 rfl dX20_closest_18 h (fun v4 h => ?_)
    refine S_astore_n (i := 3) dX20_closest_21 rfl (Nat.le_of_ble_eq_true rfl) rfl rfl ?_
    change Sem g d YX20_closest 22 [(1, x0), (0, x1), (0, x2), (1, v4), (9, 0)] [] M o
    refine S_iconst dX20_closest_22 rfl ?_
    refine S_istore dX20_closest_23 (Nat.le_of_ble_eq_true rfl) rfl rfl ?_
    change Sem g d YX20_closest 25 [(1, x0), (0, x1), (0, x2), (1, v4), (0, 0)] [] M o
    exact sl_X20_closest_25 hD c0 r0 h hz
theorem sl_X20_closest_4 {g : GG} {d : Nat} (hD : 2 ≤ d) {x0 x1 x2 : Int} {M : MM} {o : AV × MM} {P : (Int) → Prop} (r0 : ∀ r : Int, P r → o = ((0, r), M)) {z : Int} (h : l_X20_closest_4 x0 x1 x2 M = some z) (hz : P z) : Sem g d YX20_closest 4 [(1, x0), (0, x1), (0, x2), (9, 0), (9, 0)] [] M o := by
  refine lp_sound (S := fun s : Int × Int => Sem g d YX20_closest 4 [(1, x0), (0, s.1), (0, s.2), (9, 0), (9, 0)] [] M o) (P := P) ?_ FU (x1, x2) z h hz
  intro s x hx hP
  exact s_X20_closest_4 hD (P := Sum.elim (fun s : Int × Int => Sem g d YX20_closest 4 [(1, x0), (0, s.1), (0, s.2), (9, 0), (9, 0)] [] M o) P) (fun s h => h) (fun s h => r0 s h) hx hP
theorem s_X20_closest_0 {g : GG} {d : Nat} (hD : 2 ≤ d) {x0 : Int} {M : MM} {o : AV × MM} {P : (Int) → Prop} (r0 : ∀ r : Int, P r → o = ((0, r), M)) {z : Int} (h : f_X20_closest x0 M = some z) (hz : P z) : Sem g d YX20_closest 0 [(1, x0), (9, 0), (9, 0), (9, 0), (9, 0)] [] M o := by
  delta f_X20_closest at h
  refine S_iconst dX20_closest_0 rfl ?_
  refine S_istore_n (i := 1) dX20_closest_1 rfl (Nat.le_of_ble_eq_true rfl) rfl rfl ?_
  change Sem g d YX20_closest 2 [(1, x0), (0, (-1)), (9, 0), (9, 0), (9, 0)] [] M o
  refine S_iconst dX20_closest_2 rfl ?_
  refine S_istore_n (i := 2) dX20_closest_3 rfl (Nat.le_of_ble_eq_true rfl) rfl rfl ?_
  change Sem g d YX20_closest 4 [(1, x0), (0, (-1)), (0, 0), (9, 0), (9, 0)] [] M o
  exact sl_X20_closest_4 hD r0 h hz
theorem F_X20_closest {g : GG} {d : Nat} (hD : 2 ≤ d) {x0 : Int} {M : MM} {r : Int} (h : f_X20_closest x0 M = some r) : Sem g d YX20_closest 0 (ini YX20_closest [(1, x0)]) [] M ((0, r), M) := by
  change Sem g d YX20_closest 0 [(1, x0), (9, 0), (9, 0), (9, 0), (9, 0)] [] M ((0, r), M)
  exact s_X20_closest_0 hD (P := fun x => x = r) (fun q e => by rw [e]) h rfl
/-! PeerSearch$Joining.refresh(LPeerSearch$Work;)Z -/
theorem dX13_refresh_0 : decode cX13_refresh 0 = .ok (.aload_n 0, 1) := by decide +kernel
theorem dX13_refresh_1 : decode cX13_refresh 1 = .ok (.iconst 0, 1) := by decide +kernel
theorem dX13_refresh_2 : decode cX13_refresh 2 = .ok (.putfield 7, 3) := by decide +kernel
theorem dX13_refresh_5 : decode cX13_refresh 5 = .ok (.aload_n 0, 1) := by decide +kernel
theorem dX13_refresh_6 : decode cX13_refresh 6 = .ok (.iconst 0, 1) := by decide +kernel
theorem dX13_refresh_7 : decode cX13_refresh 7 = .ok (.putfield 33, 3) := by decide +kernel
theorem dX13_refresh_10 : decode cX13_refresh 10 = .ok (.aload_n 0, 1) := by decide +kernel
theorem dX13_refresh_11 : decode cX13_refresh 11 = .ok (.aload_n 1, 1) := by decide +kernel
theorem dX13_refresh_12 : decode cX13_refresh 12 = .ok (.getfield 13, 3) := by decide +kernel
theorem dX13_refresh_15 : decode cX13_refresh 15 = .ok (.getfield 37, 3) := by decide +kernel
theorem dX13_refresh_18 : decode cX13_refresh 18 = .ok (.invokevirtual 41, 3) := by decide +kernel
theorem dX13_refresh_21 : decode cX13_refresh 21 = .ok (.putfield 47, 3) := by decide +kernel
theorem dX13_refresh_24 : decode cX13_refresh 24 = .ok (.aload_n 0, 1) := by decide +kernel
theorem dX13_refresh_25 : decode cX13_refresh 25 = .ok (.aload_n 1, 1) := by decide +kernel
theorem dX13_refresh_26 : decode cX13_refresh 26 = .ok (.invokevirtual 50, 3) := by decide +kernel
theorem dX13_refresh_29 : decode cX13_refresh 29 = .ok (.ireturn, 1) := by decide +kernel
def f_X13_refresh (x0 x1 : Int) (M : MM) : Option (Int × MM) :=
  (pfz 13 0 x0 0 M).bind fun M1 =>
  (pfi 13 1 x0 0 M1).bind fun M2 =>
  (gfr 11 2 x1 M2).bind fun v1 =>
  (gfr 17 5 v1 M2).bind fun v2 =>
  ck 20 v2 M2 <| (f_X20_closest v2 M2).bind fun v3 =>
  (pfi 13 2 x0 v3 M2).bind fun M3 =>
  ck 13 x0 M3 <| (f_X13_goes x0 x1 M3).bind fun r1 =>
  bz r1.1 (some (r1.1, r1.2))
theorem s_X13_refresh_0 {g : GG} {d : Nat} (hD : 7 ≤ d) {x0 x1 : Int} {M : MM} {o : AV × MM} {P : (Int × MM) → Prop} (r0 : ∀ r : Int × MM, P r → o = ((0, r.1), r.2)) {z : Int × MM} (h : f_X13_refresh x0 x1 M = some z) (hz : P z) : Sem g d YX13_refresh 0 [(1, x0), (1, x1)] [] M o := by
  delta f_X13_refresh at h
  refine S_aload_n (i := 0) dX13_refresh_0 rfl rfl ?_
  refine S_iconst dX13_refresh_1 rfl ?_
  refine P_pfz FLX13_7 FPX13_7 rfl dX13_refresh_2 h (fun M1 h => ?_)
  refine S_aload_n (i := 0) dX13_refresh_5 rfl rfl ?_
  refine S_iconst dX13_refresh_6 rfl ?_
  refine P_pfi FLX13_33 FPX13_33 rfl dX13_refresh_7 h (fun M2 h => ?_)
  refine S_aload_n (i := 0) dX13_refresh_10 rfl rfl ?_
  refine S_aload_n (i := 1) dX13_refresh_11 rfl rfl ?_
  refine P_gfr FLX13_13 rfl dX13_refresh_12 h (fun v1 h => ?_)
  refine P_gfr FLX13_37 rfl dX13_refresh_15 h (fun v2 h => ?_)
  refine P_invVp 0 [] [(1, x0)] CVX20_closest MLX13_41 dX13_refresh_18 rfl rfl rfl rfl rfl (by omega) h (fun r h => F_X20_closest (by omega) h) (fun v3 h => ?_)
  refine P_pfi FLX13_47 FPX13_47 rfl dX13_refresh_21 h (fun M3 h => ?_)
  refine S_aload_n (i := 0) dX13_refresh_24 rfl rfl ?_
  refine S_aload_n (i := 1) dX13_refresh_25 rfl rfl ?_
  refine P_invVe 0 [(1, x1)] [] CVX13_goes MLX13_50 dX13_refresh_26 rfl rfl rfl rfl rfl (by omega) h (fun r h => F_X13_goes (by omega) h) (fun r1 h => ?_)
  obtain ⟨hb, h⟩ := bz_some h
  obtain rfl := r0 _ (some_P (P := fun r => P r) h hz)
  exact P_ret dX13_refresh_29 rfl (Or.inr ⟨rfl, hb⟩)
theorem F_X13_refresh {g : GG} {d : Nat} (hD : 7 ≤ d) {x0 x1 : Int} {M : MM} {r : Int × MM} (h : f_X13_refresh x0 x1 M = some r) : Sem g d YX13_refresh 0 (ini YX13_refresh [(1, x0), (1, x1)]) [] M ((0, r.1), r.2) := by
  change Sem g d YX13_refresh 0 [(1, x0), (1, x1)] [] M ((0, r.1), r.2)
  exact s_X13_refresh_0 hD (P := fun x => x = r) (fun q e => by rw [e]) h rfl
/-! PeerSearch$Joining.begin(LPeerSearch$Work;)Z -/
theorem dX13_begin_0 : decode cX13_begin 0 = .ok (.aload_n 0, 1) := by decide +kernel
theorem dX13_begin_1 : decode cX13_begin 1 = .ok (.getfield 7, 3) := by decide +kernel
theorem dX13_begin_4 : decode cX13_begin 4 = .ok (.ifCond .eq 18, 3) := by decide +kernel
theorem dX13_begin_7 : decode cX13_begin 7 = .ok (.aload_n 1, 1) := by decide +kernel
theorem dX13_begin_8 : decode cX13_begin 8 = .ok (.aload_n 1, 1) := by decide +kernel
theorem dX13_begin_9 : decode cX13_begin 9 = .ok (.getfield 13, 3) := by decide +kernel
theorem dX13_begin_12 : decode cX13_begin 12 = .ok (.getfield 19, 3) := by decide +kernel
theorem dX13_begin_15 : decode cX13_begin 15 = .ok (.iconst 0, 1) := by decide +kernel
theorem dX13_begin_16 : decode cX13_begin 16 = .ok (.invokevirtual 25, 3) := by decide +kernel
theorem dX13_begin_19 : decode cX13_begin 19 = .ok (.goto 8, 3) := by decide +kernel
theorem dX13_begin_22 : decode cX13_begin 22 = .ok (.aload_n 0, 1) := by decide +kernel
theorem dX13_begin_23 : decode cX13_begin 23 = .ok (.aload_n 1, 1) := by decide +kernel
theorem dX13_begin_24 : decode cX13_begin 24 = .ok (.invokevirtual 29, 3) := by decide +kernel
theorem dX13_begin_27 : decode cX13_begin 27 = .ok (.ireturn, 1) := by decide +kernel
def j_X13_begin_27 (y0 : Int) (M : MM) : Option (Int × MM) :=
  bz y0 (some (y0, M))
def f_X13_begin (x0 x1 : Int) (M : MM) : Option (Int × MM) :=
  (gfi 13 0 x0 M).bind fun v1 =>
  if w32 v1 = 0 then
    ck 13 x0 M <| (f_X13_refresh x0 x1 M).bind fun r1 =>
    j_X13_begin_27 r1.1 r1.2
  else
    (gfr 11 2 x1 M).bind fun v2 =>
    (gfr 17 2 v2 M).bind fun v3 =>
    ck 11 x1 M <| (f_X11_look x1 v3 0 M).bind fun r2 =>
    j_X13_begin_27 r2.1 r2.2
theorem s_X13_begin_27 {g : GG} {d : Nat} (hD : 8 ≤ d) {y0 : Int} {M : MM} {o : AV × MM} {P : (Int × MM) → Prop} (r0 : ∀ r : Int × MM, P r → o = ((0, r.1), r.2)) {z : Int × MM} (h : j_X13_begin_27 y0 M = some z) (hz : P z) : Sem g d YX13_begin 27 [(9, 0), (9, 0)] [(0, y0)] M o := by
  delta j_X13_begin_27 at h
  obtain ⟨hb, h⟩ := bz_some h
  obtain rfl := r0 _ (some_P (P := fun r => P r) h hz)
  exact P_ret dX13_begin_27 rfl (Or.inr ⟨rfl, hb⟩)
theorem s_X13_begin_0 {g : GG} {d : Nat} (hD : 8 ≤ d) {x0 x1 : Int} {M : MM} {o : AV × MM} {P : (Int × MM) → Prop} (r0 : ∀ r : Int × MM, P r → o = ((0, r.1), r.2)) {z : Int × MM} (h : f_X13_begin x0 x1 M = some z) (hz : P z) : Sem g d YX13_begin 0 [(1, x0), (1, x1)] [] M o := by
  delta f_X13_begin at h
  refine S_aload_n (i := 0) dX13_begin_0 rfl rfl ?_
  refine P_gfi FLX13_7 rfl dX13_begin_1 h (fun v1 h => ?_)
  refine P_if_eq (tgt := 22) dX13_begin_4 rfl h (fun h => ?_) (fun h => ?_)
  · refine S_aload_n (i := 0) dX13_begin_22 rfl rfl ?_
    refine S_aload_n (i := 1) dX13_begin_23 rfl rfl ?_
    refine P_invVe 0 [(1, x1)] [] CVX13_refresh MLX13_29 dX13_begin_24 rfl rfl rfl rfl rfl (by omega) h (fun r h => F_X13_refresh (by omega) h) (fun r1 h => ?_)
    refine S_weak (ls' := [(9, 0), (9, 0)]) ⟨Or.inl rfl, ⟨Or.inl rfl, trivial⟩⟩ ?_
    exact s_X13_begin_27 hD r0 h hz
  · refine S_aload_n (i := 1) dX13_begin_7 rfl rfl ?_
    refine S_aload_n (i := 1) dX13_begin_8 rfl rfl ?_
    refine P_gfr FLX13_13 rfl dX13_begin_9 h (fun v2 h => ?_)
    refine P_gfr FLX13_19 rfl dX13_begin_12 h (fun v3 h => ?_)
    refine S_iconst dX13_begin_15 rfl ?_
    refine P_invVe 0 [(1, v3), (0, 0)] [] CVX11_look MLX13_25 dX13_begin_16 rfl rfl rfl rfl rfl (by omega) h (fun r h => F_X11_look (by omega) h) (fun r2 h => ?_)
    refine S_goto (tgt := 27) dX13_begin_19 rfl ?_
    refine S_weak (ls' := [(9, 0), (9, 0)]) ⟨Or.inl rfl, ⟨Or.inl rfl, trivial⟩⟩ ?_
    exact s_X13_begin_27 hD r0 h hz
theorem F_X13_begin {g : GG} {d : Nat} (hD : 8 ≤ d) {x0 x1 : Int} {M : MM} {r : Int × MM} (h : f_X13_begin x0 x1 M = some r) : Sem g d YX13_begin 0 (ini YX13_begin [(1, x0), (1, x1)]) [] M ((0, r.1), r.2) := by
  change Sem g d YX13_begin 0 [(1, x0), (1, x1)] [] M ((0, r.1), r.2)
  exact s_X13_begin_0 hD (P := fun x => x = r) (fun q e => by rw [e]) h rfl
/-! PeerSearch$Looking.begin(LPeerSearch$Work;)Z -/
theorem dX14_begin_0 : decode cX14_begin 0 = .ok (.aload_n 1, 1) := by decide +kernel
theorem dX14_begin_1 : decode cX14_begin 1 = .ok (.aload_n 1, 1) := by decide +kernel
theorem dX14_begin_2 : decode cX14_begin 2 = .ok (.getfield 7, 3) := by decide +kernel
theorem dX14_begin_5 : decode cX14_begin 5 = .ok (.iconst 0, 1) := by decide +kernel
theorem dX14_begin_6 : decode cX14_begin 6 = .ok (.invokevirtual 13, 3) := by decide +kernel
theorem dX14_begin_9 : decode cX14_begin 9 = .ok (.ireturn, 1) := by decide +kernel
def f_X14_begin (x0 x1 : Int) (M : MM) : Option (Int × MM) :=
  (gfr 11 7 x1 M).bind fun v1 =>
  ck 11 x1 M <| (f_X11_look x1 v1 0 M).bind fun r1 =>
  bz r1.1 (some (r1.1, r1.2))
theorem s_X14_begin_0 {g : GG} {d : Nat} (hD : 6 ≤ d) {x0 x1 : Int} {M : MM} {o : AV × MM} {P : (Int × MM) → Prop} (r0 : ∀ r : Int × MM, P r → o = ((0, r.1), r.2)) {z : Int × MM} (h : f_X14_begin x0 x1 M = some z) (hz : P z) : Sem g d YX14_begin 0 [(1, x0), (1, x1)] [] M o := by
  delta f_X14_begin at h
  refine S_aload_n (i := 1) dX14_begin_0 rfl rfl ?_
  refine S_aload_n (i := 1) dX14_begin_1 rfl rfl ?_
  refine P_gfr FLX14_7 rfl dX14_begin_2 h (fun v1 h => ?_)
  refine S_iconst dX14_begin_5 rfl ?_
  refine P_invVe 0 [(1, v1), (0, 0)] [] CVX11_look MLX14_13 dX14_begin_6 rfl rfl rfl rfl rfl (by omega) h (fun r h => F_X11_look (by omega) h) (fun r1 h => ?_)
  obtain ⟨hb, h⟩ := bz_some h
  obtain rfl := r0 _ (some_P (P := fun r => P r) h hz)
  exact P_ret dX14_begin_9 rfl (Or.inr ⟨rfl, hb⟩)
theorem F_X14_begin {g : GG} {d : Nat} (hD : 6 ≤ d) {x0 x1 : Int} {M : MM} {r : Int × MM} (h : f_X14_begin x0 x1 M = some r) : Sem g d YX14_begin 0 (ini YX14_begin [(1, x0), (1, x1)]) [] M ((0, r.1), r.2) := by
  change Sem g d YX14_begin 0 [(1, x0), (1, x1)] [] M ((0, r.1), r.2)
  exact s_X14_begin_0 hD (P := fun x => x = r) (fun q e => by rw [e]) h rfl
/-! PeerSearch$Publishing.goes(LPeerSearch$Work;)Z -/
theorem dX30_goes_0 : decode cX30_goes 0 = .ok (.aload_n 1, 1) := by decide +kernel
theorem dX30_goes_1 : decode cX30_goes 1 = .ok (.getfield 80, 3) := by decide +kernel
theorem dX30_goes_4 : decode cX30_goes 4 = .ok (.ifnull 14, 3) := by decide +kernel
theorem dX30_goes_7 : decode cX30_goes 7 = .ok (.aload_n 1, 1) := by decide +kernel
theorem dX30_goes_8 : decode cX30_goes 8 = .ok (.getfield 80, 3) := by decide +kernel
theorem dX30_goes_11 : decode cX30_goes 11 = .ok (.aload_n 0, 1) := by decide +kernel
theorem dX30_goes_12 : decode cX30_goes 12 = .ok (.getfield 51, 3) := by decide +kernel
theorem dX30_goes_15 : decode cX30_goes 15 = .ok (.putfield 84, 3) := by decide +kernel
theorem dX30_goes_18 : decode cX30_goes 18 = .ok (.aload_n 0, 1) := by decide +kernel
theorem dX30_goes_19 : decode cX30_goes 19 = .ok (.getfield 45, 3) := by decide +kernel
theorem dX30_goes_22 : decode cX30_goes 22 = .ok (.aload_n 0, 1) := by decide +kernel
theorem dX30_goes_23 : decode cX30_goes 23 = .ok (.getfield 36, 3) := by decide +kernel
theorem dX30_goes_26 : decode cX30_goes 26 = .ok (.if_icmp .ge 21, 3) := by decide +kernel
theorem dX30_goes_29 : decode cX30_goes 29 = .ok (.aload_n 1, 1) := by decide +kernel
theorem dX30_goes_30 : decode cX30_goes 30 = .ok (.aload_n 0, 1) := by decide +kernel
theorem dX30_goes_31 : decode cX30_goes 31 = .ok (.getfield 11, 3) := by decide +kernel
theorem dX30_goes_34 : decode cX30_goes 34 = .ok (.aload_n 0, 1) := by decide +kernel
theorem dX30_goes_35 : decode cX30_goes 35 = .ok (.getfield 45, 3) := by decide +kernel
theorem dX30_goes_38 : decode cX30_goes 38 = .ok (.aaload, 1) := by decide +kernel
theorem dX30_goes_39 : decode cX30_goes 39 = .ok (.getfield 89, 3) := by decide +kernel
theorem dX30_goes_42 : decode cX30_goes 42 = .ok (.iconst 0, 1) := by decide +kernel
theorem dX30_goes_43 : decode cX30_goes 43 = .ok (.invokevirtual 93, 3) := by decide +kernel
theorem dX30_goes_46 : decode cX30_goes 46 = .ok (.ireturn, 1) := by decide +kernel
theorem dX30_goes_47 : decode cX30_goes 47 = .ok (.aload_n 1, 1) := by decide +kernel
theorem dX30_goes_48 : decode cX30_goes 48 = .ok (.aload_n 0, 1) := by decide +kernel
theorem dX30_goes_49 : decode cX30_goes 49 = .ok (.getfield 54, 3) := by decide +kernel
theorem dX30_goes_52 : decode cX30_goes 52 = .ok (.ifCond .eq 7, 3) := by decide +kernel
theorem dX30_goes_55 : decode cX30_goes 55 = .ok (.iconst 2, 1) := by decide +kernel
theorem dX30_goes_56 : decode cX30_goes 56 = .ok (.goto 4, 3) := by decide +kernel
theorem dX30_goes_59 : decode cX30_goes 59 = .ok (.iconst 1, 1) := by decide +kernel
theorem dX30_goes_60 : decode cX30_goes 60 = .ok (.invokevirtual 97, 3) := by decide +kernel
theorem dX30_goes_63 : decode cX30_goes 63 = .ok (.iconst 0, 1) := by decide +kernel
theorem dX30_goes_64 : decode cX30_goes 64 = .ok (.ireturn, 1) := by decide +kernel
def j_X30_goes_60 (y0 y1 : Int) (M : MM) : Option (Int × MM) :=
  ck 11 y0 M <| (f_X11_end y0 y1 M).bind fun M1 =>
  some (0, M1)
def j_X30_goes_18 (x0 x1 : Int) (M : MM) : Option (Int × MM) :=
  (gfi 30 2 x0 M).bind fun v1 =>
  (gfi 30 1 x0 M).bind fun v2 =>
  if w32 v1 < w32 v2 then
    (gfr 30 0 x0 M).bind fun v4 =>
    (gfi 30 2 x0 M).bind fun v5 =>
    (lar 10 v4 v5 M).bind fun v6 =>
    (gfr 29 2 v6 M).bind fun v7 =>
    ck 11 x1 M <| (f_X11_look x1 v7 0 M).bind fun r1 =>
    bz r1.1 (some (r1.1, r1.2))
  else
    (gfi 30 6 x0 M).bind fun v3 =>
    if w32 v3 = 0 then
      j_X30_goes_60 x1 1 M
    else
      j_X30_goes_60 x1 2 M
def f_X30_goes (x0 x1 : Int) (M : MM) : Option (Int × MM) :=
  (gfr 11 4 x1 M).bind fun v1 =>
  if v1 = -1 then
    j_X30_goes_18 x0 x1 M
  else
    (gfr 11 4 x1 M).bind fun v2 =>
    (gfi 30 5 x0 M).bind fun v3 =>
    (pfi 26 4 v2 v3 M).bind fun M1 =>
    j_X30_goes_18 x0 x1 M1
theorem s_X30_goes_60 {g : GG} {d : Nat} (hD : 6 ≤ d) {y0 y1 : Int} {M : MM} {o : AV × MM} {P : (Int × MM) → Prop} (r0 : ∀ r : Int × MM, P r → o = ((0, r.1), r.2)) {z : Int × MM} (h : j_X30_goes_60 y0 y1 M = some z) (hz : P z) : Sem g d YX30_goes 60 [(9, 0), (9, 0)] [(0, y1), (1, y0)] M o := by
  delta j_X30_goes_60 at h
  refine P_invVm' [(0, y1)] [] CVX11_end MLX30_97 dX30_goes_60 rfl rfl rfl rfl (by omega) h (fun r h => F_X11_end (by omega) h) (fun M1 h => ?_)
  refine S_iconst dX30_goes_63 rfl ?_
  obtain rfl := r0 _ (some_P (P := fun r => P r) h hz)
  exact P_ret dX30_goes_64 rfl (Or.inr ⟨rfl, Or.inl rfl⟩)
theorem s_X30_goes_18 {g : GG} {d : Nat} (hD : 6 ≤ d) {x0 x1 : Int} {M : MM} {o : AV × MM} {P : (Int × MM) → Prop} (r0 : ∀ r : Int × MM, P r → o = ((0, r.1), r.2)) {z : Int × MM} (h : j_X30_goes_18 x0 x1 M = some z) (hz : P z) : Sem g d YX30_goes 18 [(1, x0), (1, x1)] [] M o := by
  delta j_X30_goes_18 at h
  refine S_aload_n (i := 0) dX30_goes_18 rfl rfl ?_
  refine P_gfi FLX30_45 rfl dX30_goes_19 h (fun v1 h => ?_)
  refine S_aload_n (i := 0) dX30_goes_22 rfl rfl ?_
  refine P_gfi FLX30_36 rfl dX30_goes_23 h (fun v2 h => ?_)
  refine P_icmp_ge (tgt := 47) dX30_goes_26 rfl h (fun h => ?_) (fun h => ?_)
  · refine S_aload_n (i := 1) dX30_goes_47 rfl rfl ?_
    refine S_aload_n (i := 0) dX30_goes_48 rfl rfl ?_
    refine P_gfi FLX30_54 rfl dX30_goes_49 h (fun v3 h => ?_)
    refine P_if_eq (tgt := 59) dX30_goes_52 rfl h (fun h => ?_) (fun h => ?_)
    · refine S_iconst dX30_goes_59 rfl ?_
      refine S_weak (ls' := [(9, 0), (9, 0)]) ⟨Or.inl rfl, ⟨Or.inl rfl, trivial⟩⟩ ?_
      exact s_X30_goes_60 hD r0 h hz
    · refine S_iconst dX30_goes_55 rfl ?_
      refine S_goto (tgt := 60) dX30_goes_56 rfl ?_
      refine S_weak (ls' := [(9, 0), (9, 0)]) ⟨Or.inl rfl, ⟨Or.inl rfl, trivial⟩⟩ ?_
      exact s_X30_goes_60 hD r0 h hz
  · refine S_aload_n (i := 1) dX30_goes_29 rfl rfl ?_
    refine S_aload_n (i := 0) dX30_goes_30 rfl rfl ?_
    refine P_gfr FLX30_11 rfl dX30_goes_31 h (fun v4 h => ?_)
    refine S_aload_n (i := 0) dX30_goes_34 rfl rfl ?_
    refine P_gfi FLX30_45 rfl dX30_goes_35 h (fun v5 h => ?_)
    refine P_lar (t := 10) ⟨by decide, by decide⟩ dX30_goes_38 h (fun v6 h => ?_)
    refine P_gfr FLX30_89 rfl dX30_goes_39 h (fun v7 h => ?_)
    refine S_iconst dX30_goes_42 rfl ?_
    refine P_invVe 0 [(1, v7), (0, 0)] [] CVX11_look MLX30_93 dX30_goes_43 rfl rfl rfl rfl rfl (by omega) h (fun r h => F_X11_look (by omega) h) (fun r1 h => ?_)
    obtain ⟨hb, h⟩ := bz_some h
    obtain rfl := r0 _ (some_P (P := fun r => P r) h hz)
    exact P_ret dX30_goes_46 rfl (Or.inr ⟨rfl, hb⟩)
theorem s_X30_goes_0 {g : GG} {d : Nat} (hD : 6 ≤ d) {x0 x1 : Int} {M : MM} {o : AV × MM} {P : (Int × MM) → Prop} (r0 : ∀ r : Int × MM, P r → o = ((0, r.1), r.2)) {z : Int × MM} (h : f_X30_goes x0 x1 M = some z) (hz : P z) : Sem g d YX30_goes 0 [(1, x0), (1, x1)] [] M o := by
  delta f_X30_goes at h
  refine S_aload_n (i := 1) dX30_goes_0 rfl rfl ?_
  refine P_gfr FLX30_80 rfl dX30_goes_1 h (fun v1 h => ?_)
  refine P_ifnull (tgt := 18) dX30_goes_4 rfl h (fun h => ?_) (fun h => ?_)
  · exact s_X30_goes_18 hD r0 h hz
  · refine S_aload_n (i := 1) dX30_goes_7 rfl rfl ?_
    refine P_gfr FLX30_80 rfl dX30_goes_8 h (fun v2 h => ?_)
    refine S_aload_n (i := 0) dX30_goes_11 rfl rfl ?_
    refine P_gfi FLX30_51 rfl dX30_goes_12 h (fun v3 h => ?_)
    refine P_pfi FLX30_84 FPX30_84 rfl dX30_goes_15 h (fun M1 h => ?_)
    exact s_X30_goes_18 hD r0 h hz
theorem F_X30_goes {g : GG} {d : Nat} (hD : 6 ≤ d) {x0 x1 : Int} {M : MM} {r : Int × MM} (h : f_X30_goes x0 x1 M = some r) : Sem g d YX30_goes 0 (ini YX30_goes [(1, x0), (1, x1)]) [] M ((0, r.1), r.2) := by
  change Sem g d YX30_goes 0 [(1, x0), (1, x1)] [] M ((0, r.1), r.2)
  exact s_X30_goes_0 hD (P := fun x => x = r) (fun q e => by rw [e]) h rfl
/-! PeerSearch$Term.isIn(I)Z -/
theorem dX29_isIn_0 : decode cX29_isIn 0 = .ok (.iconst 0, 1) := by decide +kernel
theorem dX29_isIn_1 : decode cX29_isIn 1 = .ok (.istore_n 2, 1) := by decide +kernel
theorem dX29_isIn_2 : decode cX29_isIn 2 = .ok (.iload_n 2, 1) := by decide +kernel
theorem dX29_isIn_3 : decode cX29_isIn 3 = .ok (.iload_n 1, 1) := by decide +kernel
theorem dX29_isIn_4 : decode cX29_isIn 4 = .ok (.if_icmp .ge 20, 3) := by decide +kernel
theorem dX29_isIn_7 : decode cX29_isIn 7 = .ok (.aload_n 0, 1) := by decide +kernel
theorem dX29_isIn_8 : decode cX29_isIn 8 = .ok (.getfield 22, 3) := by decide +kernel
theorem dX29_isIn_11 : decode cX29_isIn 11 = .ok (.iload_n 2, 1) := by decide +kernel
theorem dX29_isIn_12 : decode cX29_isIn 12 = .ok (.iaload, 1) := by decide +kernel
theorem dX29_isIn_13 : decode cX29_isIn 13 = .ok (.ifCond .le 5, 3) := by decide +kernel
theorem dX29_isIn_16 : decode cX29_isIn 16 = .ok (.iconst 1, 1) := by decide +kernel
theorem dX29_isIn_17 : decode cX29_isIn 17 = .ok (.ireturn, 1) := by decide +kernel
theorem dX29_isIn_18 : decode cX29_isIn 18 = .ok (.iinc 2 1, 3) := by decide +kernel
theorem dX29_isIn_21 : decode cX29_isIn 21 = .ok (.goto (-19), 3) := by decide +kernel
theorem dX29_isIn_24 : decode cX29_isIn 24 = .ok (.iconst 0, 1) := by decide +kernel
theorem dX29_isIn_25 : decode cX29_isIn 25 = .ok (.ireturn, 1) := by decide +kernel
def b_X29_isIn_2 (x0 x1 x2 : Int) (M : MM) : Option ((Int) ⊕ (Int)) :=
  if w32 x2 < w32 x1 then
    (gfr 29 3 x0 M).bind fun v1 =>
    (lai v1 x2 M).bind fun v2 =>
    if 0 < w32 v2 then
      xit (some 1)
    else
      cnt (x2 + 1)
  else
    xit (some 0)
def l_X29_isIn_2 (x0 x1 x2 : Int) (M : MM) : Option (Int) := lpN (fun s : Int => b_X29_isIn_2 x0 x1 s M) FU x2
def f_X29_isIn (x0 x1 : Int) (M : MM) : Option (Int) :=
  l_X29_isIn_2 x0 x1 0 M
theorem s_X29_isIn_2 {g : GG} {d : Nat} (hD : 0 ≤ d) {x0 x1 x2 : Int} {M : MM} {o : AV × MM} {P : ((Int) ⊕ (Int)) → Prop} (c0 : ∀ s : Int, P (.inl s) → Sem g d YX29_isIn 2 [(1, x0), (0, x1), (0, s)] [] M o) (r0 : ∀ r : Int, P (.inr r) → o = ((0, r), M)) {z : (Int) ⊕ (Int)} (h : b_X29_isIn_2 x0 x1 x2 M = some z) (hz : P z) : Sem g d YX29_isIn 2 [(1, x0), (0, x1), (0, x2)] [] M o := by
  delta b_X29_isIn_2 at h
  refine S_iload_n (i := 2) dX29_isIn_2 rfl rfl ?_
  refine S_iload_n (i := 1) dX29_isIn_3 rfl rfl ?_
  refine P_icmp_ge (tgt := 24) dX29_isIn_4 rfl h (fun h => ?_) (fun h => ?_)
  · obtain ⟨z0, h, hz⟩ := xit_some' (P := fun r => P r) h hz
    refine S_iconst dX29_isIn_24 rfl ?_
    obtain rfl := r0 _ (some_P (P := fun r => P (.inr r)) h hz)
    exact P_ret dX29_isIn_25 rfl (Or.inr ⟨rfl, Or.inl rfl⟩)
  · refine S_aload_n (i := 0) dX29_isIn_7 rfl rfl ?_
    refine P_gfr FLX29_22 rfl dX29_isIn_8 h (fun v1 h => ?_)
    refine S_iload_n (i := 2) dX29_isIn_11 rfl rfl ?_
    refine P_lai dX29_isIn_12 h (fun v2 h => ?_)
    refine P_if_le (tgt := 18) dX29_isIn_13 rfl h (fun h => ?_) (fun h => ?_)
    · refine S_iinc dX29_isIn_18 rfl rfl rfl ?_
      change Sem g d YX29_isIn 21 [(1, x0), (0, x1), (0, x2 + 1)] [] M o
      refine S_goto (tgt := 2) dX29_isIn_21 rfl ?_
      exact c0 (x2 + 1) (some_P (P := fun r => P r) h hz)
    · obtain ⟨z0, h, hz⟩ := xit_some' (P := fun r => P r) h hz
      refine S_iconst dX29_isIn_16 rfl ?_
      obtain rfl := r0 _ (some_P (P := fun r => P (.inr r)) h hz)
      exact P_ret dX29_isIn_17 rfl (Or.inr ⟨rfl, Or.inr rfl⟩)
theorem sl_X29_isIn_2 {g : GG} {d : Nat} (hD : 0 ≤ d) {x0 x1 x2 : Int} {M : MM} {o : AV × MM} {P : (Int) → Prop} (r0 : ∀ r : Int, P r → o = ((0, r), M)) {z : Int} (h : l_X29_isIn_2 x0 x1 x2 M = some z) (hz : P z) : Sem g d YX29_isIn 2 [(1, x0), (0, x1), (0, x2)] [] M o := by
  refine lp_sound (S := fun s : Int => Sem g d YX29_isIn 2 [(1, x0), (0, x1), (0, s)] [] M o) (P := P) ?_ FU x2 z h hz
  intro s x hx hP
  exact s_X29_isIn_2 hD (P := Sum.elim (fun s : Int => Sem g d YX29_isIn 2 [(1, x0), (0, x1), (0, s)] [] M o) P) (fun s h => h) (fun s h => r0 s h) hx hP
theorem s_X29_isIn_0 {g : GG} {d : Nat} (hD : 0 ≤ d) {x0 x1 : Int} {M : MM} {o : AV × MM} {P : (Int) → Prop} (r0 : ∀ r : Int, P r → o = ((0, r), M)) {z : Int} (h : f_X29_isIn x0 x1 M = some z) (hz : P z) : Sem g d YX29_isIn 0 [(1, x0), (0, x1), (9, 0)] [] M o := by
  delta f_X29_isIn at h
  refine S_iconst dX29_isIn_0 rfl ?_
  refine S_istore_n (i := 2) dX29_isIn_1 rfl (Nat.le_of_ble_eq_true rfl) rfl rfl ?_
  change Sem g d YX29_isIn 2 [(1, x0), (0, x1), (0, 0)] [] M o
  exact sl_X29_isIn_2 hD r0 h hz
theorem F_X29_isIn {g : GG} {d : Nat} (hD : 0 ≤ d) {x0 x1 : Int} {M : MM} {r : Int} (h : f_X29_isIn x0 x1 M = some r) : Sem g d YX29_isIn 0 (ini YX29_isIn [(1, x0), (0, x1)]) [] M ((0, r), M) := by
  change Sem g d YX29_isIn 0 [(1, x0), (0, x1), (9, 0)] [] M ((0, r), M)
  exact s_X29_isIn_0 hD (P := fun x => x = r) (fun q e => by rw [e]) h rfl
/-! PeerSearch$Publishing.begin(LPeerSearch$Work;)Z -/
theorem dX30_begin_0 : decode cX30_begin 0 = .ok (.aload_n 1, 1) := by decide +kernel
theorem dX30_begin_1 : decode cX30_begin 1 = .ok (.getfield 17, 3) := by decide +kernel
theorem dX30_begin_4 : decode cX30_begin 4 = .ok (.getfield 23, 3) := by decide +kernel
theorem dX30_begin_7 : decode cX30_begin 7 = .ok (.astore_n 2, 1) := by decide +kernel
theorem dX30_begin_8 : decode cX30_begin 8 = .ok (.aload_n 0, 1) := by decide +kernel
theorem dX30_begin_9 : decode cX30_begin 9 = .ok (.aload_n 2, 1) := by decide +kernel
theorem dX30_begin_10 : decode cX30_begin 10 = .ok (.getfield 29, 3) := by decide +kernel
theorem dX30_begin_13 : decode cX30_begin 13 = .ok (.putfield 35, 3) := by decide +kernel
theorem dX30_begin_16 : decode cX30_begin 16 = .ok (.aload_n 0, 1) := by decide +kernel
theorem dX30_begin_17 : decode cX30_begin 17 = .ok (.iconst 0, 1) := by decide +kernel
theorem dX30_begin_18 : decode cX30_begin 18 = .ok (.putfield 36, 3) := by decide +kernel
theorem dX30_begin_21 : decode cX30_begin 21 = .ok (.iconst 0, 1) := by decide +kernel
theorem dX30_begin_22 : decode cX30_begin 22 = .ok (.istore_n 3, 1) := by decide +kernel
theorem dX30_begin_23 : decode cX30_begin 23 = .ok (.iload_n 3, 1) := by decide +kernel
theorem dX30_begin_24 : decode cX30_begin 24 = .ok (.aload_n 2, 1) := by decide +kernel
theorem dX30_begin_25 : decode cX30_begin 25 = .ok (.getfield 39, 3) := by decide +kernel
theorem dX30_begin_28 : decode cX30_begin 28 = .ok (.if_icmp .ge 53, 3) := by decide +kernel
theorem dX30_begin_31 : decode cX30_begin 31 = .ok (.aload_n 2, 1) := by decide +kernel
theorem dX30_begin_32 : decode cX30_begin 32 = .ok (.getfield 40, 3) := by decide +kernel
theorem dX30_begin_35 : decode cX30_begin 35 = .ok (.iload_n 3, 1) := by decide +kernel
theorem dX30_begin_36 : decode cX30_begin 36 = .ok (.aaload, 1) := by decide +kernel
theorem dX30_begin_37 : decode cX30_begin 37 = .ok (.aload_n 0, 1) := by decide +kernel
theorem dX30_begin_38 : decode cX30_begin 38 = .ok (.getfield 35, 3) := by decide +kernel
theorem dX30_begin_41 : decode cX30_begin 41 = .ok (.invokevirtual 41, 3) := by decide +kernel
theorem dX30_begin_44 : decode cX30_begin 44 = .ok (.ifCond .ne 6, 3) := by decide +kernel
theorem dX30_begin_47 : decode cX30_begin 47 = .ok (.goto 28, 3) := by decide +kernel
theorem dX30_begin_50 : decode cX30_begin 50 = .ok (.aload_n 0, 1) := by decide +kernel
theorem dX30_begin_51 : decode cX30_begin 51 = .ok (.getfield 11, 3) := by decide +kernel
theorem dX30_begin_54 : decode cX30_begin 54 = .ok (.aload_n 0, 1) := by decide +kernel
theorem dX30_begin_55 : decode cX30_begin 55 = .ok (.getfield 36, 3) := by decide +kernel
theorem dX30_begin_58 : decode cX30_begin 58 = .ok (.aload_n 2, 1) := by decide +kernel
theorem dX30_begin_59 : decode cX30_begin 59 = .ok (.getfield 40, 3) := by decide +kernel
theorem dX30_begin_62 : decode cX30_begin 62 = .ok (.iload_n 3, 1) := by decide +kernel
theorem dX30_begin_63 : decode cX30_begin 63 = .ok (.aaload, 1) := by decide +kernel
theorem dX30_begin_64 : decode cX30_begin 64 = .ok (.aastore, 1) := by decide +kernel
theorem dX30_begin_65 : decode cX30_begin 65 = .ok (.aload_n 0, 1) := by decide +kernel
theorem dX30_begin_66 : decode cX30_begin 66 = .ok (.dup, 1) := by decide +kernel
theorem dX30_begin_67 : decode cX30_begin 67 = .ok (.getfield 36, 3) := by decide +kernel
theorem dX30_begin_70 : decode cX30_begin 70 = .ok (.iconst 1, 1) := by decide +kernel
theorem dX30_begin_71 : decode cX30_begin 71 = .ok (.iadd, 1) := by decide +kernel
theorem dX30_begin_72 : decode cX30_begin 72 = .ok (.putfield 36, 3) := by decide +kernel
theorem dX30_begin_75 : decode cX30_begin 75 = .ok (.iinc 3 1, 3) := by decide +kernel
theorem dX30_begin_78 : decode cX30_begin 78 = .ok (.goto (-55), 3) := by decide +kernel
theorem dX30_begin_81 : decode cX30_begin 81 = .ok (.aload_n 0, 1) := by decide +kernel
theorem dX30_begin_82 : decode cX30_begin 82 = .ok (.iconst 0, 1) := by decide +kernel
theorem dX30_begin_83 : decode cX30_begin 83 = .ok (.putfield 45, 3) := by decide +kernel
theorem dX30_begin_86 : decode cX30_begin 86 = .ok (.aload_n 0, 1) := by decide +kernel
theorem dX30_begin_87 : decode cX30_begin 87 = .ok (.iconst 0, 1) := by decide +kernel
theorem dX30_begin_88 : decode cX30_begin 88 = .ok (.putfield 48, 3) := by decide +kernel
theorem dX30_begin_91 : decode cX30_begin 91 = .ok (.aload_n 0, 1) := by decide +kernel
theorem dX30_begin_92 : decode cX30_begin 92 = .ok (.iconst 0, 1) := by decide +kernel
theorem dX30_begin_93 : decode cX30_begin 93 = .ok (.putfield 51, 3) := by decide +kernel
theorem dX30_begin_96 : decode cX30_begin 96 = .ok (.aload_n 0, 1) := by decide +kernel
theorem dX30_begin_97 : decode cX30_begin 97 = .ok (.iconst 0, 1) := by decide +kernel
theorem dX30_begin_98 : decode cX30_begin 98 = .ok (.putfield 54, 3) := by decide +kernel
theorem dX30_begin_101 : decode cX30_begin 101 = .ok (.aload_n 1, 1) := by decide +kernel
theorem dX30_begin_102 : decode cX30_begin 102 = .ok (.getfield 17, 3) := by decide +kernel
theorem dX30_begin_105 : decode cX30_begin 105 = .ok (.aload_n 1, 1) := by decide +kernel
theorem dX30_begin_106 : decode cX30_begin 106 = .ok (.getfield 58, 3) := by decide +kernel
theorem dX30_begin_109 : decode cX30_begin 109 = .ok (.getfield 62, 3) := by decide +kernel
theorem dX30_begin_112 : decode cX30_begin 112 = .ok (.getfield 68, 3) := by decide +kernel
theorem dX30_begin_115 : decode cX30_begin 115 = .ok (.putfield 73, 3) := by decide +kernel
theorem dX30_begin_118 : decode cX30_begin 118 = .ok (.aload_n 0, 1) := by decide +kernel
theorem dX30_begin_119 : decode cX30_begin 119 = .ok (.aload_n 1, 1) := by decide +kernel
theorem dX30_begin_120 : decode cX30_begin 120 = .ok (.invokevirtual 76, 3) := by decide +kernel
theorem dX30_begin_123 : decode cX30_begin 123 = .ok (.ireturn, 1) := by decide +kernel
def j_X30_begin_81 (x0 x1 : Int) (M : MM) : Option (Int × MM) :=
  (pfi 30 2 x0 0 M).bind fun M1 =>
  (pfi 30 4 x0 0 M1).bind fun M2 =>
  (pfi 30 5 x0 0 M2).bind fun M3 =>
  (pfz 30 6 x0 0 M3).bind fun M4 =>
  (gfr 11 2 x1 M4).bind fun v1 =>
  (gfr 11 0 x1 M4).bind fun v2 =>
  (gfr 6 2 v2 M4).bind fun v3 =>
  (gfi 7 3 v3 M4).bind fun v4 =>
  (pfi 17 17 v1 v4 M4).bind fun M5 =>
  ck 30 x0 M5 <| (f_X30_goes x0 x1 M5).bind fun r1 =>
  bz r1.1 (some (r1.1, r1.2))
def j_X30_begin_75 (x0 x1 x2 x3 : Int) (M : MM) : Option ((Int × MM) ⊕ (Int × MM)) :=
  cnt (x3 + 1, M)
def b_X30_begin_23 (x0 x1 x2 x3 : Int) (M : MM) : Option ((Int × MM) ⊕ (Int × MM)) :=
  (gfi 19 1 x2 M).bind fun v1 =>
  if w32 x3 < w32 v1 then
    (gfr 19 0 x2 M).bind fun v2 =>
    (lar 10 v2 x3 M).bind fun v3 =>
    (gfi 30 3 x0 M).bind fun v4 =>
    ck 29 v3 M <| (f_X29_isIn v3 v4 M).bind fun v5 =>
    if w32 v5 = 0 then
      j_X30_begin_75 x0 x1 x2 x3 M
    else
      (gfr 30 0 x0 M).bind fun v6 =>
      (gfi 30 1 x0 M).bind fun v7 =>
      (gfr 19 0 x2 M).bind fun v8 =>
      (lar 10 v8 x3 M).bind fun v9 =>
      (sar 10 v6 v7 v9 M).bind fun M1 =>
      (gfi 30 1 x0 M1).bind fun v10 =>
      (pfi 30 1 x0 (v10 + 1) M1).bind fun M2 =>
      j_X30_begin_75 x0 x1 x2 x3 M2
  else
    xit (j_X30_begin_81 x0 x1 M)
def l_X30_begin_23 (x0 x1 x2 x3 : Int) (M : MM) : Option (Int × MM) := lpN (fun s : Int × MM => b_X30_begin_23 x0 x1 x2 s.1 s.2) FU (x3, M)
def f_X30_begin (x0 x1 : Int) (M : MM) : Option (Int × MM) :=
  (gfr 11 2 x1 M).bind fun v1 =>
  (gfr 17 7 v1 M).bind fun v2 =>
  (gfi 19 2 v2 M).bind fun v3 =>
  (pfi 30 3 x0 v3 M).bind fun M1 =>
  (pfi 30 1 x0 0 M1).bind fun M2 =>
  l_X30_begin_23 x0 x1 v2 0 M2
theorem s_X30_begin_81 {g : GG} {d : Nat} (hD : 7 ≤ d) {x0 x1 : Int} {M : MM} {o : AV × MM} {P : (Int × MM) → Prop} (r0 : ∀ r : Int × MM, P r → o = ((0, r.1), r.2)) {z : Int × MM} (h : j_X30_begin_81 x0 x1 M = some z) (hz : P z) : Sem g d YX30_begin 81 [(1, x0), (1, x1), (9, 0), (9, 0)] [] M o := by
  delta j_X30_begin_81 at h
  refine S_aload_n (i := 0) dX30_begin_81 rfl rfl ?_
  refine S_iconst dX30_begin_82 rfl ?_
  refine P_pfi FLX30_45 FPX30_45 rfl dX30_begin_83 h (fun M1 h => ?_)
  refine S_aload_n (i := 0) dX30_begin_86 rfl rfl ?_
  refine S_iconst dX30_begin_87 rfl ?_
  refine P_pfi FLX30_48 FPX30_48 rfl dX30_begin_88 h (fun M2 h => ?_)
  refine S_aload_n (i := 0) dX30_begin_91 rfl rfl ?_
  refine S_iconst dX30_begin_92 rfl ?_
  refine P_pfi FLX30_51 FPX30_51 rfl dX30_begin_93 h (fun M3 h => ?_)
  refine S_aload_n (i := 0) dX30_begin_96 rfl rfl ?_
  refine S_iconst dX30_begin_97 rfl ?_
  refine P_pfz FLX30_54 FPX30_54 rfl dX30_begin_98 h (fun M4 h => ?_)
  refine S_aload_n (i := 1) dX30_begin_101 rfl rfl ?_
  refine P_gfr FLX30_17 rfl dX30_begin_102 h (fun v1 h => ?_)
  refine S_aload_n (i := 1) dX30_begin_105 rfl rfl ?_
  refine P_gfr FLX30_58 rfl dX30_begin_106 h (fun v2 h => ?_)
  refine P_gfr FLX30_62 rfl dX30_begin_109 h (fun v3 h => ?_)
  refine P_gfi FLX30_68 rfl dX30_begin_112 h (fun v4 h => ?_)
  refine P_pfi FLX30_73 FPX30_73 rfl dX30_begin_115 h (fun M5 h => ?_)
  refine S_aload_n (i := 0) dX30_begin_118 rfl rfl ?_
  refine S_aload_n (i := 1) dX30_begin_119 rfl rfl ?_
  refine P_invVe 0 [(1, x1)] [] CVX30_goes MLX30_76 dX30_begin_120 rfl rfl rfl rfl rfl (by omega) h (fun r h => F_X30_goes (by omega) h) (fun r1 h => ?_)
  obtain ⟨hb, h⟩ := bz_some h
  obtain rfl := r0 _ (some_P (P := fun r => P r) h hz)
  exact P_ret dX30_begin_123 rfl (Or.inr ⟨rfl, hb⟩)
theorem s_X30_begin_75 {g : GG} {d : Nat} (hD : 7 ≤ d) {x0 x1 x2 x3 : Int} {M : MM} {o : AV × MM} {P : ((Int × MM) ⊕ (Int × MM)) → Prop} (c0 : ∀ s : Int × MM, P (.inl s) → Sem g d YX30_begin 23 [(1, x0), (1, x1), (1, x2), (0, s.1)] [] s.2 o) (r0 : ∀ r : Int × MM, P (.inr r) → o = ((0, r.1), r.2)) {z : (Int × MM) ⊕ (Int × MM)} (h : j_X30_begin_75 x0 x1 x2 x3 M = some z) (hz : P z) : Sem g d YX30_begin 75 [(1, x0), (1, x1), (1, x2), (0, x3)] [] M o := by
  delta j_X30_begin_75 at h
  refine S_iinc dX30_begin_75 rfl rfl rfl ?_
  change Sem g d YX30_begin 78 [(1, x0), (1, x1), (1, x2), (0, x3 + 1)] [] M o
  refine S_goto (tgt := 23) dX30_begin_78 rfl ?_
  exact c0 (x3 + 1, M) (some_P (P := fun r => P r) h hz)
theorem s_X30_begin_23 {g : GG} {d : Nat} (hD : 7 ≤ d) {x0 x1 x2 x3 : Int} {M : MM} {o : AV × MM} {P : ((Int × MM) ⊕ (Int × MM)) → Prop} (c0 : ∀ s : Int × MM, P (.inl s) → Sem g d YX30_begin 23 [(1, x0), (1, x1), (1, x2), (0, s.1)] [] s.2 o) (r0 : ∀ r : Int × MM, P (.inr r) → o = ((0, r.1), r.2)) {z : (Int × MM) ⊕ (Int × MM)} (h : b_X30_begin_23 x0 x1 x2 x3 M = some z) (hz : P z) : Sem g d YX30_begin 23 [(1, x0), (1, x1), (1, x2), (0, x3)] [] M o := by
  delta b_X30_begin_23 at h
  refine S_iload_n (i := 3) dX30_begin_23 rfl rfl ?_
  refine S_aload_n (i := 2) dX30_begin_24 rfl rfl ?_
  refine P_gfi FLX30_39 rfl dX30_begin_25 h (fun v1 h => ?_)
  refine P_icmp_ge (tgt := 81) dX30_begin_28 rfl h (fun h => ?_) (fun h => ?_)
  · refine S_weak (ls' := [(1, x0), (1, x1), (9, 0), (9, 0)]) ⟨Or.inr rfl, ⟨Or.inr rfl, ⟨Or.inl rfl, ⟨Or.inl rfl, trivial⟩⟩⟩⟩ ?_
    obtain ⟨z0, h, hz⟩ := xit_some' (P := fun r => P r) h hz
    exact s_X30_begin_81 hD (P := fun r => P (.inr r)) r0 h hz
  · refine S_aload_n (i := 2) dX30_begin_31 rfl rfl ?_
    refine P_gfr FLX30_40 rfl dX30_begin_32 h (fun v2 h => ?_)
    refine S_iload_n (i := 3) dX30_begin_35 rfl rfl ?_
    refine P_lar (t := 10) ⟨by decide, by decide⟩ dX30_begin_36 h (fun v3 h => ?_)
    refine S_aload_n (i := 0) dX30_begin_37 rfl rfl ?_
    refine P_gfi FLX30_35 rfl dX30_begin_38 h (fun v4 h => ?_)
    refine P_invVp 0 [(0, v4)] [] CVX29_isIn MLX30_41 dX30_begin_41 rfl rfl rfl rfl rfl (by omega) h (fun r h => F_X29_isIn (by omega) h) (fun v5 h => ?_)
    refine P_if_ne (tgt := 50) dX30_begin_44 rfl h (fun h => ?_) (fun h => ?_)
    · refine S_aload_n (i := 0) dX30_begin_50 rfl rfl ?_
      refine P_gfr FLX30_11 rfl dX30_begin_51 h (fun v6 h => ?_)
      refine S_aload_n (i := 0) dX30_begin_54 rfl rfl ?_
      refine P_gfi FLX30_36 rfl dX30_begin_55 h (fun v7 h => ?_)
      refine S_aload_n (i := 2) dX30_begin_58 rfl rfl ?_
      refine P_gfr FLX30_40 rfl dX30_begin_59 h (fun v8 h => ?_)
      refine S_iload_n (i := 3) dX30_begin_62 rfl rfl ?_
      refine P_lar (t := 10) ⟨by decide, by decide⟩ dX30_begin_63 h (fun v9 h => ?_)
      refine P_sar (t := 10) ⟨by decide, by decide⟩ dX30_begin_64 h (fun M1 h => ?_)
      refine S_aload_n (i := 0) dX30_begin_65 rfl rfl ?_
      refine S_dup dX30_begin_66 (Nat.le_of_ble_eq_true rfl) ?_
      refine P_gfi FLX30_36 rfl dX30_begin_67 h (fun v10 h => ?_)
      refine S_iconst dX30_begin_70 rfl ?_
      refine S_iadd dX30_begin_71 ?_
      refine P_pfi FLX30_36 FPX30_36 rfl dX30_begin_72 h (fun M2 h => ?_)
      exact s_X30_begin_75 hD c0 r0 h hz
    · refine S_goto (tgt := 75) dX30_begin_47 rfl ?_
      exact s_X30_begin_75 hD c0 r0 h hz
theorem sl_X30_begin_23 {g : GG} {d : Nat} (hD : 7 ≤ d) {x0 x1 x2 x3 : Int} {M : MM} {o : AV × MM} {P : (Int × MM) → Prop} (r0 : ∀ r : Int × MM, P r → o = ((0, r.1), r.2)) {z : Int × MM} (h : l_X30_begin_23 x0 x1 x2 x3 M = some z) (hz : P z) : Sem g d YX30_begin 23 [(1, x0), (1, x1), (1, x2), (0, x3)] [] M o := by
  refine lp_sound (S := fun s : Int × MM => Sem g d YX30_begin 23 [(1, x0), (1, x1), (1, x2), (0, s.1)] [] s.2 o) (P := P) ?_ FU (x3, M) z h hz
  intro s x hx hP
  exact s_X30_begin_23 hD (P := Sum.elim (fun s : Int × MM => Sem g d YX30_begin 23 [(1, x0), (1, x1), (1, x2), (0, s.1)] [] s.2 o) P) (fun s h => h) (fun s h => r0 s h) hx hP
theorem s_X30_begin_0 {g : GG} {d : Nat} (hD : 7 ≤ d) {x0 x1 : Int} {M : MM} {o : AV × MM} {P : (Int × MM) → Prop} (r0 : ∀ r : Int × MM, P r → o = ((0, r.1), r.2)) {z : Int × MM} (h : f_X30_begin x0 x1 M = some z) (hz : P z) : Sem g d YX30_begin 0 [(1, x0), (1, x1), (9, 0), (9, 0)] [] M o := by
  delta f_X30_begin at h
  refine S_aload_n (i := 1) dX30_begin_0 rfl rfl ?_
  refine P_gfr FLX30_17 rfl dX30_begin_1 h (fun v1 h => ?_)
  refine P_gfr FLX30_23 rfl dX30_begin_4 h (fun v2 h => ?_)
  refine S_astore_n (i := 2) dX30_begin_7 rfl (Nat.le_of_ble_eq_true rfl) rfl rfl ?_
  change Sem g d YX30_begin 8 [(1, x0), (1, x1), (1, v2), (9, 0)] [] M o
  refine S_aload_n (i := 0) dX30_begin_8 rfl rfl ?_
  refine S_aload_n (i := 2) dX30_begin_9 rfl rfl ?_
  refine P_gfi FLX30_29 rfl dX30_begin_10 h (fun v3 h => ?_)
  refine P_pfi FLX30_35 FPX30_35 rfl dX30_begin_13 h (fun M1 h => ?_)
  refine S_aload_n (i := 0) dX30_begin_16 rfl rfl ?_
  refine S_iconst dX30_begin_17 rfl ?_
  refine P_pfi FLX30_36 FPX30_36 rfl dX30_begin_18 h (fun M2 h => ?_)
  refine S_iconst dX30_begin_21 rfl ?_
  refine S_istore_n (i := 3) dX30_begin_22 rfl (Nat.le_of_ble_eq_true rfl) rfl rfl ?_
  change Sem g d YX30_begin 23 [(1, x0), (1, x1), (1, v2), (0, 0)] [] M2 o
  exact sl_X30_begin_23 hD r0 h hz
theorem F_X30_begin {g : GG} {d : Nat} (hD : 7 ≤ d) {x0 x1 : Int} {M : MM} {r : Int × MM} (h : f_X30_begin x0 x1 M = some r) : Sem g d YX30_begin 0 (ini YX30_begin [(1, x0), (1, x1)]) [] M ((0, r.1), r.2) := by
  change Sem g d YX30_begin 0 [(1, x0), (1, x1), (9, 0), (9, 0)] [] M ((0, r.1), r.2)
  exact s_X30_begin_0 hD (P := fun x => x = r) (fun q e => by rw [e]) h rfl
/-! PeerSearch$Asking.arrange()V -/
theorem dX31_arrange_0 : decode cX31_arrange 0 = .ok (.iconst 0, 1) := by decide +kernel
theorem dX31_arrange_1 : decode cX31_arrange 1 = .ok (.istore_n 1, 1) := by decide +kernel
theorem dX31_arrange_2 : decode cX31_arrange 2 = .ok (.iload_n 1, 1) := by decide +kernel
theorem dX31_arrange_3 : decode cX31_arrange 3 = .ok (.aload_n 0, 1) := by decide +kernel
theorem dX31_arrange_4 : decode cX31_arrange 4 = .ok (.getfield 68, 3) := by decide +kernel
theorem dX31_arrange_7 : decode cX31_arrange 7 = .ok (.if_icmp .ge 64, 3) := by decide +kernel
theorem dX31_arrange_10 : decode cX31_arrange 10 = .ok (.iload_n 1, 1) := by decide +kernel
theorem dX31_arrange_11 : decode cX31_arrange 11 = .ok (.istore_n 2, 1) := by decide +kernel
theorem dX31_arrange_12 : decode cX31_arrange 12 = .ok (.iload_n 2, 1) := by decide +kernel
theorem dX31_arrange_13 : decode cX31_arrange 13 = .ok (.ifCond .le 45, 3) := by decide +kernel
theorem dX31_arrange_16 : decode cX31_arrange 16 = .ok (.aload_n 0, 1) := by decide +kernel
theorem dX31_arrange_17 : decode cX31_arrange 17 = .ok (.getfield 20, 3) := by decide +kernel
theorem dX31_arrange_20 : decode cX31_arrange 20 = .ok (.aload_n 0, 1) := by decide +kernel
theorem dX31_arrange_21 : decode cX31_arrange 21 = .ok (.getfield 27, 3) := by decide +kernel
theorem dX31_arrange_24 : decode cX31_arrange 24 = .ok (.iload_n 2, 1) := by decide +kernel
theorem dX31_arrange_25 : decode cX31_arrange 25 = .ok (.iconst 1, 1) := by decide +kernel
theorem dX31_arrange_26 : decode cX31_arrange 26 = .ok (.isub, 1) := by decide +kernel
theorem dX31_arrange_27 : decode cX31_arrange 27 = .ok (.iaload, 1) := by decide +kernel
theorem dX31_arrange_28 : decode cX31_arrange 28 = .ok (.iaload, 1) := by decide +kernel
theorem dX31_arrange_29 : decode cX31_arrange 29 = .ok (.aload_n 0, 1) := by decide +kernel
theorem dX31_arrange_30 : decode cX31_arrange 30 = .ok (.getfield 20, 3) := by decide +kernel
theorem dX31_arrange_33 : decode cX31_arrange 33 = .ok (.iload_n 1, 1) := by decide +kernel
theorem dX31_arrange_34 : decode cX31_arrange 34 = .ok (.iaload, 1) := by decide +kernel
theorem dX31_arrange_35 : decode cX31_arrange 35 = .ok (.if_icmp .le 23, 3) := by decide +kernel
theorem dX31_arrange_38 : decode cX31_arrange 38 = .ok (.aload_n 0, 1) := by decide +kernel
theorem dX31_arrange_39 : decode cX31_arrange 39 = .ok (.getfield 27, 3) := by decide +kernel
theorem dX31_arrange_42 : decode cX31_arrange 42 = .ok (.iload_n 2, 1) := by decide +kernel
theorem dX31_arrange_43 : decode cX31_arrange 43 = .ok (.aload_n 0, 1) := by decide +kernel
theorem dX31_arrange_44 : decode cX31_arrange 44 = .ok (.getfield 27, 3) := by decide +kernel
theorem dX31_arrange_47 : decode cX31_arrange 47 = .ok (.iload_n 2, 1) := by decide +kernel
theorem dX31_arrange_48 : decode cX31_arrange 48 = .ok (.iconst 1, 1) := by decide +kernel
theorem dX31_arrange_49 : decode cX31_arrange 49 = .ok (.isub, 1) := by decide +kernel
theorem dX31_arrange_50 : decode cX31_arrange 50 = .ok (.iaload, 1) := by decide +kernel
theorem dX31_arrange_51 : decode cX31_arrange 51 = .ok (.iastore, 1) := by decide +kernel
theorem dX31_arrange_52 : decode cX31_arrange 52 = .ok (.iinc 2 (-1), 3) := by decide +kernel
theorem dX31_arrange_55 : decode cX31_arrange 55 = .ok (.goto (-43), 3) := by decide +kernel
theorem dX31_arrange_58 : decode cX31_arrange 58 = .ok (.aload_n 0, 1) := by decide +kernel
theorem dX31_arrange_59 : decode cX31_arrange 59 = .ok (.getfield 27, 3) := by decide +kernel
theorem dX31_arrange_62 : decode cX31_arrange 62 = .ok (.iload_n 2, 1) := by decide +kernel
theorem dX31_arrange_63 : decode cX31_arrange 63 = .ok (.iload_n 1, 1) := by decide +kernel
theorem dX31_arrange_64 : decode cX31_arrange 64 = .ok (.iastore, 1) := by decide +kernel
theorem dX31_arrange_65 : decode cX31_arrange 65 = .ok (.iinc 1 1, 3) := by decide +kernel
theorem dX31_arrange_68 : decode cX31_arrange 68 = .ok (.goto (-66), 3) := by decide +kernel
theorem dX31_arrange_71 : decode cX31_arrange 71 = .ok (.return_, 1) := by decide +kernel
def j_X31_arrange_58 (x0 x1 x2 : Int) (M : MM) : Option ((Int × MM) ⊕ (MM)) :=
  (gfr 31 4 x0 M).bind fun v1 =>
  (sai v1 x2 x1 M).bind fun M1 =>
  cnt (x1 + 1, M1)
def b_X31_arrange_12 (x0 x1 x2 : Int) (M : MM) : Option ((Int × MM) ⊕ ((Int × MM) ⊕ (MM))) :=
  if 0 < w32 x2 then
    (gfr 31 2 x0 M).bind fun v1 =>
    (gfr 31 4 x0 M).bind fun v2 =>
    (lai v2 (x2 - 1) M).bind fun v3 =>
    (lai v1 v3 M).bind fun v4 =>
    (gfr 31 2 x0 M).bind fun v5 =>
    (lai v5 x1 M).bind fun v6 =>
    if w32 v6 < w32 v4 then
      (gfr 31 4 x0 M).bind fun v7 =>
      (gfr 31 4 x0 M).bind fun v8 =>
      (lai v8 (x2 - 1) M).bind fun v9 =>
      (sai v7 x2 v9 M).bind fun M1 =>
      cnt (x2 + (-1), M1)
    else
      xit (j_X31_arrange_58 x0 x1 x2 M)
  else
    xit (j_X31_arrange_58 x0 x1 x2 M)
def l_X31_arrange_12 (x0 x1 x2 : Int) (M : MM) : Option ((Int × MM) ⊕ (MM)) := lpN (fun s : Int × MM => b_X31_arrange_12 x0 x1 s.1 s.2) FU (x2, M)
def b_X31_arrange_2 (x0 x1 : Int) (M : MM) : Option ((Int × MM) ⊕ (MM)) :=
  (gfi 31 5 x0 M).bind fun v1 =>
  if w32 x1 < w32 v1 then
    l_X31_arrange_12 x0 x1 x1 M
  else
    xit (some M)
def l_X31_arrange_2 (x0 x1 : Int) (M : MM) : Option (MM) := lpN (fun s : Int × MM => b_X31_arrange_2 x0 s.1 s.2) FU (x1, M)
def f_X31_arrange (x0 : Int) (M : MM) : Option (MM) :=
  l_X31_arrange_2 x0 0 M
theorem s_X31_arrange_58 {g : GG} {d : Nat} (hD : 0 ≤ d) {x0 x1 x2 : Int} {M : MM} {o : AV × MM} {P : ((Int × MM) ⊕ (MM)) → Prop} (c0 : ∀ s : Int × MM, P (.inl s) → Sem g d YX31_arrange 2 [(1, x0), (0, s.1), (9, 0)] [] s.2 o) (r0 : ∀ r : MM, P (.inr r) → o = ((9, 0), r)) {z : (Int × MM) ⊕ (MM)} (h : j_X31_arrange_58 x0 x1 x2 M = some z) (hz : P z) : Sem g d YX31_arrange 58 [(1, x0), (0, x1), (0, x2)] [] M o := by
  delta j_X31_arrange_58 at h
  refine S_aload_n (i := 0) dX31_arrange_58 rfl rfl ?_
  refine P_gfr FLX31_27 rfl dX31_arrange_59 h (fun v1 h => ?_)
  refine S_iload_n (i := 2) dX31_arrange_62 rfl rfl ?_
  refine S_iload_n (i := 1) dX31_arrange_63 rfl rfl ?_
  refine P_sai dX31_arrange_64 h (fun M1 h => ?_)
  refine S_iinc dX31_arrange_65 rfl rfl rfl ?_
  change Sem g d YX31_arrange 68 [(1, x0), (0, x1 + 1), (0, x2)] [] M1 o
  refine S_goto (tgt := 2) dX31_arrange_68 rfl ?_
  refine S_weak (ls' := [(1, x0), (0, x1 + 1), (9, 0)]) ⟨Or.inr rfl, ⟨Or.inr rfl, ⟨Or.inl rfl, trivial⟩⟩⟩ ?_
  exact c0 (x1 + 1, M1) (some_P (P := fun r => P r) h hz)
theorem s_X31_arrange_12 {g : GG} {d : Nat} (hD : 0 ≤ d) {x0 x1 x2 : Int} {M : MM} {o : AV × MM} {P : ((Int × MM) ⊕ ((Int × MM) ⊕ (MM))) → Prop} (c1 : ∀ s : Int × MM, P (.inl s) → Sem g d YX31_arrange 12 [(1, x0), (0, x1), (0, s.1)] [] s.2 o) (c0 : ∀ s : Int × MM, P (.inr (.inl s)) → Sem g d YX31_arrange 2 [(1, x0), (0, s.1), (9, 0)] [] s.2 o) (r0 : ∀ r : MM, P (.inr (.inr r)) → o = ((9, 0), r)) {z : (Int × MM) ⊕ ((Int × MM) ⊕ (MM))} (h : b_X31_arrange_12 x0 x1 x2 M = some z) (hz : P z) : Sem g d YX31_arrange 12 [(1, x0), (0, x1), (0, x2)] [] M o := by
  delta b_X31_arrange_12 at h
  refine S_iload_n (i := 2) dX31_arrange_12 rfl rfl ?_
  refine P_if_le (tgt := 58) dX31_arrange_13 rfl h (fun h => ?_) (fun h => ?_)
  · obtain ⟨z0, h, hz⟩ := xit_some' (P := fun r => P r) h hz
    exact s_X31_arrange_58 hD (P := fun r => P (.inr r)) c0 r0 h hz
  · refine S_aload_n (i := 0) dX31_arrange_16 rfl rfl ?_
    refine P_gfr FLX31_20 rfl dX31_arrange_17 h (fun v1 h => ?_)
    refine S_aload_n (i := 0) dX31_arrange_20 rfl rfl ?_
    refine P_gfr FLX31_27 rfl dX31_arrange_21 h (fun v2 h => ?_)
    refine S_iload_n (i := 2) dX31_arrange_24 rfl rfl ?_
    refine S_iconst dX31_arrange_25 rfl ?_
    refine S_isub dX31_arrange_26 ?_
    refine P_lai dX31_arrange_27 h (fun v3 h => ?_)
    refine P_lai dX31_arrange_28 h (fun v4 h => ?_)
    refine S_aload_n (i := 0) dX31_arrange_29 rfl rfl ?_
    refine P_gfr FLX31_20 rfl dX31_arrange_30 h (fun v5 h => ?_)
    refine S_iload_n (i := 1) dX31_arrange_33 rfl rfl ?_
    refine P_lai dX31_arrange_34 h (fun v6 h => ?_)
    refine P_icmp_le (tgt := 58) dX31_arrange_35 rfl h (fun h => ?_) (fun h => ?_)
    · obtain ⟨z0, h, hz⟩ := xit_some' (P := fun r => P r) h hz
      exact s_X31_arrange_58 hD (P := fun r => P (.inr r)) c0 r0 h hz
    · refine S_aload_n (i := 0) dX31_arrange_38 rfl rfl ?_
      refine P_gfr FLX31_27 rfl dX31_arrange_39 h (fun v7 h => ?_)
      refine S_iload_n (i := 2) dX31_arrange_42 rfl rfl ?_
      refine S_aload_n (i := 0) dX31_arrange_43 rfl rfl ?_
      refine P_gfr FLX31_27 rfl dX31_arrange_44 h (fun v8 h => ?_)
      refine S_iload_n (i := 2) dX31_arrange_47 rfl rfl ?_
      refine S_iconst dX31_arrange_48 rfl ?_
      refine S_isub dX31_arrange_49 ?_
      refine P_lai dX31_arrange_50 h (fun v9 h => ?_)
      refine P_sai dX31_arrange_51 h (fun M1 h => ?_)
      refine S_iinc dX31_arrange_52 rfl rfl rfl ?_
      change Sem g d YX31_arrange 55 [(1, x0), (0, x1), (0, x2 + (-1))] [] M1 o
      refine S_goto (tgt := 12) dX31_arrange_55 rfl ?_
      exact c1 (x2 + (-1), M1) (some_P (P := fun r => P r) h hz)
theorem sl_X31_arrange_12 {g : GG} {d : Nat} (hD : 0 ≤ d) {x0 x1 x2 : Int} {M : MM} {o : AV × MM} {P : ((Int × MM) ⊕ (MM)) → Prop} (c0 : ∀ s : Int × MM, P (.inl s) → Sem g d YX31_arrange 2 [(1, x0), (0, s.1), (9, 0)] [] s.2 o) (r0 : ∀ r : MM, P (.inr r) → o = ((9, 0), r)) {z : (Int × MM) ⊕ (MM)} (h : l_X31_arrange_12 x0 x1 x2 M = some z) (hz : P z) : Sem g d YX31_arrange 12 [(1, x0), (0, x1), (0, x2)] [] M o := by
  refine lp_sound (S := fun s : Int × MM => Sem g d YX31_arrange 12 [(1, x0), (0, x1), (0, s.1)] [] s.2 o) (P := P) ?_ FU (x2, M) z h hz
  intro s x hx hP
  exact s_X31_arrange_12 hD (P := Sum.elim (fun s : Int × MM => Sem g d YX31_arrange 12 [(1, x0), (0, x1), (0, s.1)] [] s.2 o) P) (fun s h => h) (fun s h => c0 s h) (fun s h => r0 s h) hx hP
theorem s_X31_arrange_2 {g : GG} {d : Nat} (hD : 0 ≤ d) {x0 x1 : Int} {M : MM} {o : AV × MM} {P : ((Int × MM) ⊕ (MM)) → Prop} (c0 : ∀ s : Int × MM, P (.inl s) → Sem g d YX31_arrange 2 [(1, x0), (0, s.1), (9, 0)] [] s.2 o) (r0 : ∀ r : MM, P (.inr r) → o = ((9, 0), r)) {z : (Int × MM) ⊕ (MM)} (h : b_X31_arrange_2 x0 x1 M = some z) (hz : P z) : Sem g d YX31_arrange 2 [(1, x0), (0, x1), (9, 0)] [] M o := by
  delta b_X31_arrange_2 at h
  refine S_iload_n (i := 1) dX31_arrange_2 rfl rfl ?_
  refine S_aload_n (i := 0) dX31_arrange_3 rfl rfl ?_
  refine P_gfi FLX31_68 rfl dX31_arrange_4 h (fun v1 h => ?_)
  refine P_icmp_ge (tgt := 71) dX31_arrange_7 rfl h (fun h => ?_) (fun h => ?_)
  · obtain ⟨z0, h, hz⟩ := xit_some' (P := fun r => P r) h hz
    obtain rfl := r0 _ (some_P (P := fun r => P (.inr r)) h hz)
    exact S_return dX31_arrange_71 rfl
  · refine S_iload_n (i := 1) dX31_arrange_10 rfl rfl ?_
    refine S_istore_n (i := 2) dX31_arrange_11 rfl (Nat.le_of_ble_eq_true rfl) rfl rfl ?_
    change Sem g d YX31_arrange 12 [(1, x0), (0, x1), (0, x1)] [] M o
    exact sl_X31_arrange_12 hD c0 r0 h hz
theorem sl_X31_arrange_2 {g : GG} {d : Nat} (hD : 0 ≤ d) {x0 x1 : Int} {M : MM} {o : AV × MM} {P : (MM) → Prop} (r0 : ∀ r : MM, P r → o = ((9, 0), r)) {z : MM} (h : l_X31_arrange_2 x0 x1 M = some z) (hz : P z) : Sem g d YX31_arrange 2 [(1, x0), (0, x1), (9, 0)] [] M o := by
  refine lp_sound (S := fun s : Int × MM => Sem g d YX31_arrange 2 [(1, x0), (0, s.1), (9, 0)] [] s.2 o) (P := P) ?_ FU (x1, M) z h hz
  intro s x hx hP
  exact s_X31_arrange_2 hD (P := Sum.elim (fun s : Int × MM => Sem g d YX31_arrange 2 [(1, x0), (0, s.1), (9, 0)] [] s.2 o) P) (fun s h => h) (fun s h => r0 s h) hx hP
theorem s_X31_arrange_0 {g : GG} {d : Nat} (hD : 0 ≤ d) {x0 : Int} {M : MM} {o : AV × MM} {P : (MM) → Prop} (r0 : ∀ r : MM, P r → o = ((9, 0), r)) {z : MM} (h : f_X31_arrange x0 M = some z) (hz : P z) : Sem g d YX31_arrange 0 [(1, x0), (9, 0), (9, 0)] [] M o := by
  delta f_X31_arrange at h
  refine S_iconst dX31_arrange_0 rfl ?_
  refine S_istore_n (i := 1) dX31_arrange_1 rfl (Nat.le_of_ble_eq_true rfl) rfl rfl ?_
  change Sem g d YX31_arrange 2 [(1, x0), (0, 0), (9, 0)] [] M o
  exact sl_X31_arrange_2 hD r0 h hz
theorem F_X31_arrange {g : GG} {d : Nat} (hD : 0 ≤ d) {x0 : Int} {M : MM} {r : MM} (h : f_X31_arrange x0 M = some r) : Sem g d YX31_arrange 0 (ini YX31_arrange [(1, x0)]) [] M ((9, 0), r) := by
  change Sem g d YX31_arrange 0 [(1, x0), (9, 0), (9, 0)] [] M ((9, 0), r)
  exact s_X31_arrange_0 hD (P := fun x => x = r) (fun q e => by rw [e]) h rfl
/-! PeerSearch$Packet.put(II)V -/
theorem dX4_put_0 : decode cX4_put 0 = .ok (.iload_n 2, 1) := by decide +kernel
theorem dX4_put_1 : decode cX4_put 1 = .ok (.iconst 1, 1) := by decide +kernel
theorem dX4_put_2 : decode cX4_put 2 = .ok (.isub, 1) := by decide +kernel
theorem dX4_put_3 : decode cX4_put 3 = .ok (.istore_n 3, 1) := by decide +kernel
theorem dX4_put_4 : decode cX4_put 4 = .ok (.iload_n 3, 1) := by decide +kernel
theorem dX4_put_5 : decode cX4_put 5 = .ok (.ifCond .lt 35, 3) := by decide +kernel
theorem dX4_put_8 : decode cX4_put 8 = .ok (.aload_n 0, 1) := by decide +kernel
theorem dX4_put_9 : decode cX4_put 9 = .ok (.getfield 11, 3) := by decide +kernel
theorem dX4_put_12 : decode cX4_put 12 = .ok (.aload_n 0, 1) := by decide +kernel
theorem dX4_put_13 : decode cX4_put 13 = .ok (.getfield 15, 3) := by decide +kernel
theorem dX4_put_16 : decode cX4_put 16 = .ok (.iload_n 1, 1) := by decide +kernel
theorem dX4_put_17 : decode cX4_put 17 = .ok (.bipush 8, 2) := by decide +kernel
theorem dX4_put_19 : decode cX4_put 19 = .ok (.iload_n 3, 1) := by decide +kernel
theorem dX4_put_20 : decode cX4_put 20 = .ok (.imul, 1) := by decide +kernel
theorem dX4_put_21 : decode cX4_put 21 = .ok (.iushr, 1) := by decide +kernel
theorem dX4_put_22 : decode cX4_put 22 = .ok (.i2b, 1) := by decide +kernel
theorem dX4_put_23 : decode cX4_put 23 = .ok (.bastore, 1) := by decide +kernel
theorem dX4_put_24 : decode cX4_put 24 = .ok (.aload_n 0, 1) := by decide +kernel
theorem dX4_put_25 : decode cX4_put 25 = .ok (.dup, 1) := by decide +kernel
theorem dX4_put_26 : decode cX4_put 26 = .ok (.getfield 15, 3) := by decide +kernel
theorem dX4_put_29 : decode cX4_put 29 = .ok (.iconst 1, 1) := by decide +kernel
theorem dX4_put_30 : decode cX4_put 30 = .ok (.iadd, 1) := by decide +kernel
theorem dX4_put_31 : decode cX4_put 31 = .ok (.putfield 15, 3) := by decide +kernel
theorem dX4_put_34 : decode cX4_put 34 = .ok (.iinc 3 (-1), 3) := by decide +kernel
theorem dX4_put_37 : decode cX4_put 37 = .ok (.goto (-33), 3) := by decide +kernel
theorem dX4_put_40 : decode cX4_put 40 = .ok (.return_, 1) := by decide +kernel
def b_X4_put_4 (x0 x1 x3 : Int) (M : MM) : Option ((Int × MM) ⊕ (MM)) :=
  if w32 x3 < 0 then
    xit (some M)
  else
    (gfr 4 0 x0 M).bind fun v1 =>
    (gfi 4 1 x0 M).bind fun v2 =>
    (sab v1 v2 (sx8 (bush x1 (8 * x3))) M).bind fun M1 =>
    (gfi 4 1 x0 M1).bind fun v3 =>
    (pfi 4 1 x0 (v3 + 1) M1).bind fun M2 =>
    cnt (x3 + (-1), M2)
def l_X4_put_4 (x0 x1 x3 : Int) (M : MM) : Option (MM) := lpN (fun s : Int × MM => b_X4_put_4 x0 x1 s.1 s.2) FU (x3, M)
def f_X4_put (x0 x1 x2 : Int) (M : MM) : Option (MM) :=
  l_X4_put_4 x0 x1 (x2 - 1) M
theorem s_X4_put_4 {g : GG} {d : Nat} (hD : 0 ≤ d) {x0 x1 x3 : Int} {M : MM} {o : AV × MM} {P : ((Int × MM) ⊕ (MM)) → Prop} (c0 : ∀ s : Int × MM, P (.inl s) → Sem g d YX4_put 4 [(1, x0), (0, x1), (9, 0), (0, s.1)] [] s.2 o) (r0 : ∀ r : MM, P (.inr r) → o = ((9, 0), r)) {z : (Int × MM) ⊕ (MM)} (h : b_X4_put_4 x0 x1 x3 M = some z) (hz : P z) : Sem g d YX4_put 4 [(1, x0), (0, x1), (9, 0), (0, x3)] [] M o := by
  delta b_X4_put_4 at h
  refine S_iload_n (i := 3) dX4_put_4 rfl rfl ?_
  refine P_if_lt (tgt := 40) dX4_put_5 rfl h (fun h => ?_) (fun h => ?_)
  · obtain ⟨z0, h, hz⟩ := xit_some' (P := fun r => P r) h hz
    obtain rfl := r0 _ (some_P (P := fun r => P (.inr r)) h hz)
    exact S_return dX4_put_40 rfl
  · refine S_aload_n (i := 0) dX4_put_8 rfl rfl ?_
    refine P_gfr FLX4_11 rfl dX4_put_9 h (fun v1 h => ?_)
    refine S_aload_n (i := 0) dX4_put_12 rfl rfl ?_
    refine P_gfi FLX4_15 rfl dX4_put_13 h (fun v2 h => ?_)
    refine S_iload_n (i := 1) dX4_put_16 rfl rfl ?_
    refine S_bipush (z := 8) dX4_put_17 rfl ?_
    refine S_iload_n (i := 3) dX4_put_19 rfl rfl ?_
    refine S_imul dX4_put_20 ?_
    refine S_iushr dX4_put_21 ?_
    refine S_i2b dX4_put_22 ?_
    refine P_sab dX4_put_23 h (fun M1 h => ?_)
    refine S_aload_n (i := 0) dX4_put_24 rfl rfl ?_
    refine S_dup dX4_put_25 (Nat.le_of_ble_eq_true rfl) ?_
    refine P_gfi FLX4_15 rfl dX4_put_26 h (fun v3 h => ?_)
    refine S_iconst dX4_put_29 rfl ?_
    refine S_iadd dX4_put_30 ?_
    refine P_pfi FLX4_15 FPX4_15 rfl dX4_put_31 h (fun M2 h => ?_)
    refine S_iinc dX4_put_34 rfl rfl rfl ?_
    change Sem g d YX4_put 37 [(1, x0), (0, x1), (9, 0), (0, x3 + (-1))] [] M2 o
    refine S_goto (tgt := 4) dX4_put_37 rfl ?_
    exact c0 (x3 + (-1), M2) (some_P (P := fun r => P r) h hz)
theorem sl_X4_put_4 {g : GG} {d : Nat} (hD : 0 ≤ d) {x0 x1 x3 : Int} {M : MM} {o : AV × MM} {P : (MM) → Prop} (r0 : ∀ r : MM, P r → o = ((9, 0), r)) {z : MM} (h : l_X4_put_4 x0 x1 x3 M = some z) (hz : P z) : Sem g d YX4_put 4 [(1, x0), (0, x1), (9, 0), (0, x3)] [] M o := by
  refine lp_sound (S := fun s : Int × MM => Sem g d YX4_put 4 [(1, x0), (0, x1), (9, 0), (0, s.1)] [] s.2 o) (P := P) ?_ FU (x3, M) z h hz
  intro s x hx hP
  exact s_X4_put_4 hD (P := Sum.elim (fun s : Int × MM => Sem g d YX4_put 4 [(1, x0), (0, x1), (9, 0), (0, s.1)] [] s.2 o) P) (fun s h => h) (fun s h => r0 s h) hx hP
theorem s_X4_put_0 {g : GG} {d : Nat} (hD : 0 ≤ d) {x0 x1 x2 : Int} {M : MM} {o : AV × MM} {P : (MM) → Prop} (r0 : ∀ r : MM, P r → o = ((9, 0), r)) {z : MM} (h : f_X4_put x0 x1 x2 M = some z) (hz : P z) : Sem g d YX4_put 0 [(1, x0), (0, x1), (0, x2), (9, 0)] [] M o := by
  delta f_X4_put at h
  refine S_iload_n (i := 2) dX4_put_0 rfl rfl ?_
  refine S_iconst dX4_put_1 rfl ?_
  refine S_isub dX4_put_2 ?_
  refine S_istore_n (i := 3) dX4_put_3 rfl (Nat.le_of_ble_eq_true rfl) rfl rfl ?_
  change Sem g d YX4_put 4 [(1, x0), (0, x1), (0, x2), (0, x2 - 1)] [] M o
  refine S_weak (ls' := [(1, x0), (0, x1), (9, 0), (0, x2 - 1)]) ⟨Or.inr rfl, ⟨Or.inr rfl, ⟨Or.inl rfl, ⟨Or.inr rfl, trivial⟩⟩⟩⟩ ?_
  exact sl_X4_put_4 hD r0 h hz
theorem F_X4_put {g : GG} {d : Nat} (hD : 0 ≤ d) {x0 x1 x2 : Int} {M : MM} {r : MM} (h : f_X4_put x0 x1 x2 M = some r) : Sem g d YX4_put 0 (ini YX4_put [(1, x0), (0, x1), (0, x2)]) [] M ((9, 0), r) := by
  change Sem g d YX4_put 0 [(1, x0), (0, x1), (0, x2), (9, 0)] [] M ((9, 0), r)
  exact s_X4_put_0 hD (P := fun x => x = r) (fun q e => by rw [e]) h rfl
/-! PeerSearch$Packet.putKey(LPeerSearch$Key;)V -/
theorem dX4_putKey_0 : decode cX4_putKey 0 = .ok (.iconst 0, 1) := by decide +kernel
theorem dX4_putKey_1 : decode cX4_putKey 1 = .ok (.istore_n 2, 1) := by decide +kernel
theorem dX4_putKey_2 : decode cX4_putKey 2 = .ok (.iload_n 2, 1) := by decide +kernel
theorem dX4_putKey_3 : decode cX4_putKey 3 = .ok (.iconst 5, 1) := by decide +kernel
theorem dX4_putKey_4 : decode cX4_putKey 4 = .ok (.if_icmp .ge 20, 3) := by decide +kernel
theorem dX4_putKey_7 : decode cX4_putKey 7 = .ok (.aload_n 0, 1) := by decide +kernel
theorem dX4_putKey_8 : decode cX4_putKey 8 = .ok (.aload_n 1, 1) := by decide +kernel
theorem dX4_putKey_9 : decode cX4_putKey 9 = .ok (.getfield 29, 3) := by decide +kernel
theorem dX4_putKey_12 : decode cX4_putKey 12 = .ok (.iload_n 2, 1) := by decide +kernel
theorem dX4_putKey_13 : decode cX4_putKey 13 = .ok (.iaload, 1) := by decide +kernel
theorem dX4_putKey_14 : decode cX4_putKey 14 = .ok (.iconst 4, 1) := by decide +kernel
theorem dX4_putKey_15 : decode cX4_putKey 15 = .ok (.invokevirtual 19, 3) := by decide +kernel
theorem dX4_putKey_18 : decode cX4_putKey 18 = .ok (.iinc 2 1, 3) := by decide +kernel
theorem dX4_putKey_21 : decode cX4_putKey 21 = .ok (.goto (-19), 3) := by decide +kernel
theorem dX4_putKey_24 : decode cX4_putKey 24 = .ok (.return_, 1) := by decide +kernel
def b_X4_putKey_2 (x0 x1 x2 : Int) (M : MM) : Option ((Int × MM) ⊕ (MM)) :=
  if w32 x2 < w32 5 then
    (gfr 3 0 x1 M).bind fun v1 =>
    (lai v1 x2 M).bind fun v2 =>
    ck 4 x0 M <| (f_X4_put x0 v2 4 M).bind fun M1 =>
    cnt (x2 + 1, M1)
  else
    xit (some M)
def l_X4_putKey_2 (x0 x1 x2 : Int) (M : MM) : Option (MM) := lpN (fun s : Int × MM => b_X4_putKey_2 x0 x1 s.1 s.2) FU (x2, M)
def f_X4_putKey (x0 x1 : Int) (M : MM) : Option (MM) :=
  l_X4_putKey_2 x0 x1 0 M
theorem s_X4_putKey_2 {g : GG} {d : Nat} (hD : 1 ≤ d) {x0 x1 x2 : Int} {M : MM} {o : AV × MM} {P : ((Int × MM) ⊕ (MM)) → Prop} (c0 : ∀ s : Int × MM, P (.inl s) → Sem g d YX4_putKey 2 [(1, x0), (1, x1), (0, s.1)] [] s.2 o) (r0 : ∀ r : MM, P (.inr r) → o = ((9, 0), r)) {z : (Int × MM) ⊕ (MM)} (h : b_X4_putKey_2 x0 x1 x2 M = some z) (hz : P z) : Sem g d YX4_putKey 2 [(1, x0), (1, x1), (0, x2)] [] M o := by
  delta b_X4_putKey_2 at h
  refine S_iload_n (i := 2) dX4_putKey_2 rfl rfl ?_
  refine S_iconst dX4_putKey_3 rfl ?_
  refine P_icmp_ge (tgt := 24) dX4_putKey_4 rfl h (fun h => ?_) (fun h => ?_)
  · obtain ⟨z0, h, hz⟩ := xit_some' (P := fun r => P r) h hz
    obtain rfl := r0 _ (some_P (P := fun r => P (.inr r)) h hz)
    exact S_return dX4_putKey_24 rfl
  · refine S_aload_n (i := 0) dX4_putKey_7 rfl rfl ?_
    refine S_aload_n (i := 1) dX4_putKey_8 rfl rfl ?_
    refine P_gfr FLX4_29 rfl dX4_putKey_9 h (fun v1 h => ?_)
    refine S_iload_n (i := 2) dX4_putKey_12 rfl rfl ?_
    refine P_lai dX4_putKey_13 h (fun v2 h => ?_)
    refine S_iconst dX4_putKey_14 rfl ?_
    refine P_invVm' [(0, v2), (0, 4)] [] CVX4_put MLX4_19 dX4_putKey_15 rfl rfl rfl rfl (by omega) h (fun r h => F_X4_put (by omega) h) (fun M1 h => ?_)
    refine S_iinc dX4_putKey_18 rfl rfl rfl ?_
    change Sem g d YX4_putKey 21 [(1, x0), (1, x1), (0, x2 + 1)] [] M1 o
    refine S_goto (tgt := 2) dX4_putKey_21 rfl ?_
    exact c0 (x2 + 1, M1) (some_P (P := fun r => P r) h hz)
theorem sl_X4_putKey_2 {g : GG} {d : Nat} (hD : 1 ≤ d) {x0 x1 x2 : Int} {M : MM} {o : AV × MM} {P : (MM) → Prop} (r0 : ∀ r : MM, P r → o = ((9, 0), r)) {z : MM} (h : l_X4_putKey_2 x0 x1 x2 M = some z) (hz : P z) : Sem g d YX4_putKey 2 [(1, x0), (1, x1), (0, x2)] [] M o := by
  refine lp_sound (S := fun s : Int × MM => Sem g d YX4_putKey 2 [(1, x0), (1, x1), (0, s.1)] [] s.2 o) (P := P) ?_ FU (x2, M) z h hz
  intro s x hx hP
  exact s_X4_putKey_2 hD (P := Sum.elim (fun s : Int × MM => Sem g d YX4_putKey 2 [(1, x0), (1, x1), (0, s.1)] [] s.2 o) P) (fun s h => h) (fun s h => r0 s h) hx hP
theorem s_X4_putKey_0 {g : GG} {d : Nat} (hD : 1 ≤ d) {x0 x1 : Int} {M : MM} {o : AV × MM} {P : (MM) → Prop} (r0 : ∀ r : MM, P r → o = ((9, 0), r)) {z : MM} (h : f_X4_putKey x0 x1 M = some z) (hz : P z) : Sem g d YX4_putKey 0 [(1, x0), (1, x1), (9, 0)] [] M o := by
  delta f_X4_putKey at h
  refine S_iconst dX4_putKey_0 rfl ?_
  refine S_istore_n (i := 2) dX4_putKey_1 rfl (Nat.le_of_ble_eq_true rfl) rfl rfl ?_
  change Sem g d YX4_putKey 2 [(1, x0), (1, x1), (0, 0)] [] M o
  exact sl_X4_putKey_2 hD r0 h hz
theorem F_X4_putKey {g : GG} {d : Nat} (hD : 1 ≤ d) {x0 x1 : Int} {M : MM} {r : MM} (h : f_X4_putKey x0 x1 M = some r) : Sem g d YX4_putKey 0 (ini YX4_putKey [(1, x0), (1, x1)]) [] M ((9, 0), r) := by
  change Sem g d YX4_putKey 0 [(1, x0), (1, x1), (9, 0)] [] M ((9, 0), r)
  exact s_X4_putKey_0 hD (P := fun x => x = r) (fun q e => by rw [e]) h rfl
/-! PeerSearch$Packet.begin(IILPeerSearch$Key;)V -/
theorem dX4_begin_0 : decode cX4_begin 0 = .ok (.aload_n 0, 1) := by decide +kernel
theorem dX4_begin_1 : decode cX4_begin 1 = .ok (.iconst 0, 1) := by decide +kernel
theorem dX4_begin_2 : decode cX4_begin 2 = .ok (.putfield 15, 3) := by decide +kernel
theorem dX4_begin_5 : decode cX4_begin 5 = .ok (.aload_n 0, 1) := by decide +kernel
theorem dX4_begin_6 : decode cX4_begin 6 = .ok (.iload_n 1, 1) := by decide +kernel
theorem dX4_begin_7 : decode cX4_begin 7 = .ok (.iconst 1, 1) := by decide +kernel
theorem dX4_begin_8 : decode cX4_begin 8 = .ok (.invokevirtual 19, 3) := by decide +kernel
theorem dX4_begin_11 : decode cX4_begin 11 = .ok (.aload_n 0, 1) := by decide +kernel
theorem dX4_begin_12 : decode cX4_begin 12 = .ok (.iload_n 2, 1) := by decide +kernel
theorem dX4_begin_13 : decode cX4_begin 13 = .ok (.iconst 4, 1) := by decide +kernel
theorem dX4_begin_14 : decode cX4_begin 14 = .ok (.invokevirtual 19, 3) := by decide +kernel
theorem dX4_begin_17 : decode cX4_begin 17 = .ok (.aload_n 0, 1) := by decide +kernel
theorem dX4_begin_18 : decode cX4_begin 18 = .ok (.aload_n 3, 1) := by decide +kernel
theorem dX4_begin_19 : decode cX4_begin 19 = .ok (.invokevirtual 23, 3) := by decide +kernel
theorem dX4_begin_22 : decode cX4_begin 22 = .ok (.return_, 1) := by decide +kernel
def f_X4_begin (x0 x1 x2 x3 : Int) (M : MM) : Option (MM) :=
  (pfi 4 1 x0 0 M).bind fun M1 =>
  ck 4 x0 M1 <| (f_X4_put x0 x1 1 M1).bind fun M2 =>
  ck 4 x0 M2 <| (f_X4_put x0 x2 4 M2).bind fun M3 =>
  ck 4 x0 M3 <| (f_X4_putKey x0 x3 M3).bind fun M4 =>
  some M4
theorem s_X4_begin_0 {g : GG} {d : Nat} (hD : 2 ≤ d) {x0 x1 x2 x3 : Int} {M : MM} {o : AV × MM} {P : (MM) → Prop} (r0 : ∀ r : MM, P r → o = ((9, 0), r)) {z : MM} (h : f_X4_begin x0 x1 x2 x3 M = some z) (hz : P z) : Sem g d YX4_begin 0 [(1, x0), (0, x1), (0, x2), (1, x3)] [] M o := by
  delta f_X4_begin at h
  refine S_aload_n (i := 0) dX4_begin_0 rfl rfl ?_
  refine S_iconst dX4_begin_1 rfl ?_
  refine P_pfi FLX4_15 FPX4_15 rfl dX4_begin_2 h (fun M1 h => ?_)
  refine S_aload_n (i := 0) dX4_begin_5 rfl rfl ?_
  refine S_iload_n (i := 1) dX4_begin_6 rfl rfl ?_
  refine S_iconst dX4_begin_7 rfl ?_
  refine P_invVm' [(0, x1), (0, 1)] [] CVX4_put MLX4_19 dX4_begin_8 rfl rfl rfl rfl (by omega) h (fun r h => F_X4_put (by omega) h) (fun M2 h => ?_)
  refine S_aload_n (i := 0) dX4_begin_11 rfl rfl ?_
  refine S_iload_n (i := 2) dX4_begin_12 rfl rfl ?_
  refine S_iconst dX4_begin_13 rfl ?_
  refine P_invVm' [(0, x2), (0, 4)] [] CVX4_put MLX4_19 dX4_begin_14 rfl rfl rfl rfl (by omega) h (fun r h => F_X4_put (by omega) h) (fun M3 h => ?_)
  refine S_aload_n (i := 0) dX4_begin_17 rfl rfl ?_
  refine S_aload_n (i := 3) dX4_begin_18 rfl rfl ?_
  refine P_invVm' [(1, x3)] [] CVX4_putKey MLX4_23 dX4_begin_19 rfl rfl rfl rfl (by omega) h (fun r h => F_X4_putKey (by omega) h) (fun M4 h => ?_)
  obtain rfl := r0 _ (some_P (P := fun r => P r) h hz)
  exact S_return dX4_begin_22 rfl
theorem F_X4_begin {g : GG} {d : Nat} (hD : 2 ≤ d) {x0 x1 x2 x3 : Int} {M : MM} {r : MM} (h : f_X4_begin x0 x1 x2 x3 M = some r) : Sem g d YX4_begin 0 (ini YX4_begin [(1, x0), (0, x1), (0, x2), (1, x3)]) [] M ((9, 0), r) := by
  change Sem g d YX4_begin 0 [(1, x0), (0, x1), (0, x2), (1, x3)] [] M ((9, 0), r)
  exact s_X4_begin_0 hD (P := fun x => x = r) (fun q e => by rw [e]) h rfl
/-! PeerSearch$Peer.begin(I)LPeerSearch$Packet; -/
theorem dX17_begin_0 : decode cX17_begin 0 = .ok (.aload_n 0, 1) := by decide +kernel
theorem dX17_begin_1 : decode cX17_begin 1 = .ok (.getfield 42, 3) := by decide +kernel
theorem dX17_begin_4 : decode cX17_begin 4 = .ok (.getfield 119, 3) := by decide +kernel
theorem dX17_begin_7 : decode cX17_begin 7 = .ok (.iload_n 1, 1) := by decide +kernel
theorem dX17_begin_8 : decode cX17_begin 8 = .ok (.iconst 0, 1) := by decide +kernel
theorem dX17_begin_9 : decode cX17_begin 9 = .ok (.aload_n 0, 1) := by decide +kernel
theorem dX17_begin_10 : decode cX17_begin 10 = .ok (.getfield 12, 3) := by decide +kernel
theorem dX17_begin_13 : decode cX17_begin 13 = .ok (.invokevirtual 123, 3) := by decide +kernel
theorem dX17_begin_16 : decode cX17_begin 16 = .ok (.aload_n 0, 1) := by decide +kernel
theorem dX17_begin_17 : decode cX17_begin 17 = .ok (.getfield 42, 3) := by decide +kernel
theorem dX17_begin_20 : decode cX17_begin 20 = .ok (.getfield 119, 3) := by decide +kernel
theorem dX17_begin_23 : decode cX17_begin 23 = .ok (.areturn, 1) := by decide +kernel
def f_X17_begin (x0 x1 : Int) (M : MM) : Option (Int × MM) :=
  (gfr 17 0 x0 M).bind fun v1 =>
  (gfr 6 8 v1 M).bind fun v2 =>
  (gfr 17 2 x0 M).bind fun v3 =>
  ck 4 v2 M <| (f_X4_begin v2 x1 0 v3 M).bind fun M1 =>
  (gfr 17 0 x0 M1).bind fun v4 =>
  (gfr 6 8 v4 M1).bind fun v5 =>
  some (v5, M1)
theorem s_X17_begin_0 {g : GG} {d : Nat} (hD : 3 ≤ d) {x0 x1 : Int} {M : MM} {o : AV × MM} {P : (Int × MM) → Prop} (r0 : ∀ r : Int × MM, P r → o = ((1, r.1), r.2)) {z : Int × MM} (h : f_X17_begin x0 x1 M = some z) (hz : P z) : Sem g d YX17_begin 0 [(1, x0), (0, x1)] [] M o := by
  delta f_X17_begin at h
  refine S_aload_n (i := 0) dX17_begin_0 rfl rfl ?_
  refine P_gfr FLX17_42 rfl dX17_begin_1 h (fun v1 h => ?_)
  refine P_gfr FLX17_119 rfl dX17_begin_4 h (fun v2 h => ?_)
  refine S_iload_n (i := 1) dX17_begin_7 rfl rfl ?_
  refine S_iconst dX17_begin_8 rfl ?_
  refine S_aload_n (i := 0) dX17_begin_9 rfl rfl ?_
  refine P_gfr FLX17_12 rfl dX17_begin_10 h (fun v3 h => ?_)
  refine P_invVm' [(0, x1), (0, 0), (1, v3)] [] CVX4_begin MLX17_123 dX17_begin_13 rfl rfl rfl rfl (by omega) h (fun r h => F_X4_begin (by omega) h) (fun M1 h => ?_)
  refine S_aload_n (i := 0) dX17_begin_16 rfl rfl ?_
  refine P_gfr FLX17_42 rfl dX17_begin_17 h (fun v4 h => ?_)
  refine P_gfr FLX17_119 rfl dX17_begin_20 h (fun v5 h => ?_)
  obtain rfl := r0 _ (some_P (P := fun r => P r) h hz)
  exact S_areturn dX17_begin_23 ⟨_, rfl, Or.inl ⟨_, rfl⟩⟩
theorem F_X17_begin {g : GG} {d : Nat} (hD : 3 ≤ d) {x0 x1 : Int} {M : MM} {r : Int × MM} (h : f_X17_begin x0 x1 M = some r) : Sem g d YX17_begin 0 (ini YX17_begin [(1, x0), (0, x1)]) [] M ((1, r.1), r.2) := by
  change Sem g d YX17_begin 0 [(1, x0), (0, x1)] [] M ((1, r.1), r.2)
  exact s_X17_begin_0 hD (P := fun x => x = r) (fun q e => by rw [e]) h rfl
/-! PeerSearch$Ranking.isAhead(IIII)Z -/
theorem dX5_isAhead_0 : decode cX5_isAhead 0 = .ok (.iload_n 3, 1) := by decide +kernel
theorem dX5_isAhead_1 : decode cX5_isAhead 1 = .ok (.aload_n 0, 1) := by decide +kernel
theorem dX5_isAhead_2 : decode cX5_isAhead 2 = .ok (.getfield 16, 3) := by decide +kernel
theorem dX5_isAhead_5 : decode cX5_isAhead 5 = .ok (.iload 4, 2) := by decide +kernel
theorem dX5_isAhead_7 : decode cX5_isAhead 7 = .ok (.iaload, 1) := by decide +kernel
theorem dX5_isAhead_8 : decode cX5_isAhead 8 = .ok (.if_icmp .eq 20, 3) := by decide +kernel
theorem dX5_isAhead_11 : decode cX5_isAhead 11 = .ok (.iload_n 3, 1) := by decide +kernel
theorem dX5_isAhead_12 : decode cX5_isAhead 12 = .ok (.aload_n 0, 1) := by decide +kernel
theorem dX5_isAhead_13 : decode cX5_isAhead 13 = .ok (.getfield 16, 3) := by decide +kernel
theorem dX5_isAhead_16 : decode cX5_isAhead 16 = .ok (.iload 4, 2) := by decide +kernel
theorem dX5_isAhead_18 : decode cX5_isAhead 18 = .ok (.iaload, 1) := by decide +kernel
theorem dX5_isAhead_19 : decode cX5_isAhead 19 = .ok (.if_icmp .le 7, 3) := by decide +kernel
theorem dX5_isAhead_22 : decode cX5_isAhead 22 = .ok (.iconst 1, 1) := by decide +kernel
theorem dX5_isAhead_23 : decode cX5_isAhead 23 = .ok (.goto 4, 3) := by decide +kernel
theorem dX5_isAhead_26 : decode cX5_isAhead 26 = .ok (.iconst 0, 1) := by decide +kernel
theorem dX5_isAhead_27 : decode cX5_isAhead 27 = .ok (.ireturn, 1) := by decide +kernel
theorem dX5_isAhead_28 : decode cX5_isAhead 28 = .ok (.iload_n 1, 1) := by decide +kernel
theorem dX5_isAhead_29 : decode cX5_isAhead 29 = .ok (.aload_n 0, 1) := by decide +kernel
theorem dX5_isAhead_30 : decode cX5_isAhead 30 = .ok (.getfield 7, 3) := by decide +kernel
theorem dX5_isAhead_33 : decode cX5_isAhead 33 = .ok (.iload 4, 2) := by decide +kernel
theorem dX5_isAhead_35 : decode cX5_isAhead 35 = .ok (.iaload, 1) := by decide +kernel
theorem dX5_isAhead_36 : decode cX5_isAhead 36 = .ok (.if_icmp .eq 22, 3) := by decide +kernel
theorem dX5_isAhead_39 : decode cX5_isAhead 39 = .ok (.iload_n 1, 1) := by decide +kernel
theorem dX5_isAhead_40 : decode cX5_isAhead 40 = .ok (.aload_n 0, 1) := by decide +kernel
theorem dX5_isAhead_41 : decode cX5_isAhead 41 = .ok (.getfield 7, 3) := by decide +kernel
theorem dX5_isAhead_44 : decode cX5_isAhead 44 = .ok (.iload 4, 2) := by decide +kernel
theorem dX5_isAhead_46 : decode cX5_isAhead 46 = .ok (.iaload, 1) := by decide +kernel
theorem dX5_isAhead_47 : decode cX5_isAhead 47 = .ok (.if_icmp .ge 7, 3) := by decide +kernel
theorem dX5_isAhead_50 : decode cX5_isAhead 50 = .ok (.iconst 1, 1) := by decide +kernel
theorem dX5_isAhead_51 : decode cX5_isAhead 51 = .ok (.goto 23, 3) := by decide +kernel
theorem dX5_isAhead_54 : decode cX5_isAhead 54 = .ok (.iconst 0, 1) := by decide +kernel
theorem dX5_isAhead_55 : decode cX5_isAhead 55 = .ok (.goto 19, 3) := by decide +kernel
theorem dX5_isAhead_58 : decode cX5_isAhead 58 = .ok (.iload_n 2, 1) := by decide +kernel
theorem dX5_isAhead_59 : decode cX5_isAhead 59 = .ok (.aload_n 0, 1) := by decide +kernel
theorem dX5_isAhead_60 : decode cX5_isAhead 60 = .ok (.getfield 13, 3) := by decide +kernel
theorem dX5_isAhead_63 : decode cX5_isAhead 63 = .ok (.iload 4, 2) := by decide +kernel
theorem dX5_isAhead_65 : decode cX5_isAhead 65 = .ok (.iaload, 1) := by decide +kernel
theorem dX5_isAhead_66 : decode cX5_isAhead 66 = .ok (.if_icmp .ge 7, 3) := by decide +kernel
theorem dX5_isAhead_69 : decode cX5_isAhead 69 = .ok (.iconst 1, 1) := by decide +kernel
theorem dX5_isAhead_70 : decode cX5_isAhead 70 = .ok (.goto 4, 3) := by decide +kernel
theorem dX5_isAhead_73 : decode cX5_isAhead 73 = .ok (.iconst 0, 1) := by decide +kernel
theorem dX5_isAhead_74 : decode cX5_isAhead 74 = .ok (.ireturn, 1) := by decide +kernel
def j_X5_isAhead_74 (y0 : Int) (M : MM) : Option (Int) :=
  bz y0 (some y0)
def j_X5_isAhead_27 (y0 : Int) (M : MM) : Option (Int) :=
  bz y0 (some y0)
def f_X5_isAhead (x0 x1 x2 x3 x4 : Int) (M : MM) : Option (Int) :=
  (gfr 5 2 x0 M).bind fun v1 =>
  (lai v1 x4 M).bind fun v2 =>
  if w32 x3 = w32 v2 then
    (gfr 5 0 x0 M).bind fun v3 =>
    (lai v3 x4 M).bind fun v4 =>
    if w32 x1 = w32 v4 then
      (gfr 5 1 x0 M).bind fun v5 =>
      (lai v5 x4 M).bind fun v6 =>
      if w32 x2 < w32 v6 then
        j_X5_isAhead_74 1 M
      else
        j_X5_isAhead_74 0 M
    else
      (gfr 5 0 x0 M).bind fun v7 =>
      (lai v7 x4 M).bind fun v8 =>
      if w32 x1 < w32 v8 then
        j_X5_isAhead_74 1 M
      else
        j_X5_isAhead_74 0 M
  else
    (gfr 5 2 x0 M).bind fun v9 =>
    (lai v9 x4 M).bind fun v10 =>
    if w32 v10 < w32 x3 then
      j_X5_isAhead_27 1 M
    else
      j_X5_isAhead_27 0 M
theorem s_X5_isAhead_74 {g : GG} {d : Nat} (hD : 0 ≤ d) {y0 : Int} {M : MM} {o : AV × MM} {P : (Int) → Prop} (r0 : ∀ r : Int, P r → o = ((0, r), M)) {z : Int} (h : j_X5_isAhead_74 y0 M = some z) (hz : P z) : Sem g d YX5_isAhead 74 [(9, 0), (9, 0), (9, 0), (9, 0), (9, 0)] [(0, y0)] M o := by
  delta j_X5_isAhead_74 at h
  obtain ⟨hb, h⟩ := bz_some h
  obtain rfl := r0 _ (some_P (P := fun r => P r) h hz)
  exact P_ret dX5_isAhead_74 rfl (Or.inr ⟨rfl, hb⟩)
theorem s_X5_isAhead_27 {g : GG} {d : Nat} (hD : 0 ≤ d) {y0 : Int} {M : MM} {o : AV × MM} {P : (Int) → Prop} (r0 : ∀ r : Int, P r → o = ((0, r), M)) {z : Int} (h : j_X5_isAhead_27 y0 M = some z) (hz : P z) : Sem g d YX5_isAhead 27 [(9, 0), (9, 0), (9, 0), (9, 0), (9, 0)] [(0, y0)] M o := by
  delta j_X5_isAhead_27 at h
  obtain ⟨hb, h⟩ := bz_some h
  obtain rfl := r0 _ (some_P (P := fun r => P r) h hz)
  exact P_ret dX5_isAhead_27 rfl (Or.inr ⟨rfl, hb⟩)
theorem s_X5_isAhead_0 {g : GG} {d : Nat} (hD : 0 ≤ d) {x0 x1 x2 x3 x4 : Int} {M : MM} {o : AV × MM} {P : (Int) → Prop} (r0 : ∀ r : Int, P r → o = ((0, r), M)) {z : Int} (h : f_X5_isAhead x0 x1 x2 x3 x4 M = some z) (hz : P z) : Sem g d YX5_isAhead 0 [(1, x0), (0, x1), (0, x2), (0, x3), (0, x4)] [] M o := by
  delta f_X5_isAhead at h
  refine S_iload_n (i := 3) dX5_isAhead_0 rfl rfl ?_
  refine S_aload_n (i := 0) dX5_isAhead_1 rfl rfl ?_
  refine P_gfr FLX5_16 rfl dX5_isAhead_2 h (fun v1 h => ?_)
  refine S_iload dX5_isAhead_5 rfl ?_
  refine P_lai dX5_isAhead_7 h (fun v2 h => ?_)
  refine P_icmp_eq (tgt := 28) dX5_isAhead_8 rfl h (fun h => ?_) (fun h => ?_)
  · refine S_iload_n (i := 1) dX5_isAhead_28 rfl rfl ?_
    refine S_aload_n (i := 0) dX5_isAhead_29 rfl rfl ?_
    refine P_gfr FLX5_7 rfl dX5_isAhead_30 h (fun v3 h => ?_)
    refine S_iload dX5_isAhead_33 rfl ?_
    refine P_lai dX5_isAhead_35 h (fun v4 h => ?_)
    refine P_icmp_eq (tgt := 58) dX5_isAhead_36 rfl h (fun h => ?_) (fun h => ?_)
    · refine S_iload_n (i := 2) dX5_isAhead_58 rfl rfl ?_
      refine S_aload_n (i := 0) dX5_isAhead_59 rfl rfl ?_
      refine P_gfr FLX5_13 rfl dX5_isAhead_60 h (fun v5 h => ?_)
      refine S_iload dX5_isAhead_63 rfl ?_
      refine P_lai dX5_isAhead_65 h (fun v6 h => ?_)
      refine P_icmp_ge (tgt := 73) dX5_isAhead_66 rfl h (fun h => ?_) (fun h => ?_)
      · refine S_iconst dX5_isAhead_73 rfl ?_
        refine S_weak (ls' := [(9, 0), (9, 0), (9, 0), (9, 0), (9, 0)]) ⟨Or.inl rfl, ⟨Or.inl rfl, ⟨Or.inl rfl, ⟨Or.inl rfl, ⟨Or.inl rfl, trivial⟩⟩⟩⟩⟩ ?_
        exact s_X5_isAhead_74 hD r0 h hz
      · refine S_iconst dX5_isAhead_69 rfl ?_
        refine S_goto (tgt := 74) dX5_isAhead_70 rfl ?_
        refine S_weak (ls' := [(9, 0), (9, 0), (9, 0), (9, 0), (9, 0)]) ⟨Or.inl rfl, ⟨Or.inl rfl, ⟨Or.inl rfl, ⟨Or.inl rfl, ⟨Or.inl rfl, trivial⟩⟩⟩⟩⟩ ?_
        exact s_X5_isAhead_74 hD r0 h hz
    · refine S_iload_n (i := 1) dX5_isAhead_39 rfl rfl ?_
      refine S_aload_n (i := 0) dX5_isAhead_40 rfl rfl ?_
      refine P_gfr FLX5_7 rfl dX5_isAhead_41 h (fun v7 h => ?_)
      refine S_iload dX5_isAhead_44 rfl ?_
      refine P_lai dX5_isAhead_46 h (fun v8 h => ?_)
      refine P_icmp_ge (tgt := 54) dX5_isAhead_47 rfl h (fun h => ?_) (fun h => ?_)
      · refine S_iconst dX5_isAhead_54 rfl ?_
        refine S_goto (tgt := 74) dX5_isAhead_55 rfl ?_
        refine S_weak (ls' := [(9, 0), (9, 0), (9, 0), (9, 0), (9, 0)]) ⟨Or.inl rfl, ⟨Or.inl rfl, ⟨Or.inl rfl, ⟨Or.inl rfl, ⟨Or.inl rfl, trivial⟩⟩⟩⟩⟩ ?_
        exact s_X5_isAhead_74 hD r0 h hz
      · refine S_iconst dX5_isAhead_50 rfl ?_
        refine S_goto (tgt := 74) dX5_isAhead_51 rfl ?_
        refine S_weak (ls' := [(9, 0), (9, 0), (9, 0), (9, 0), (9, 0)]) ⟨Or.inl rfl, ⟨Or.inl rfl, ⟨Or.inl rfl, ⟨Or.inl rfl, ⟨Or.inl rfl, trivial⟩⟩⟩⟩⟩ ?_
        exact s_X5_isAhead_74 hD r0 h hz
  · refine S_iload_n (i := 3) dX5_isAhead_11 rfl rfl ?_
    refine S_aload_n (i := 0) dX5_isAhead_12 rfl rfl ?_
    refine P_gfr FLX5_16 rfl dX5_isAhead_13 h (fun v9 h => ?_)
    refine S_iload dX5_isAhead_16 rfl ?_
    refine P_lai dX5_isAhead_18 h (fun v10 h => ?_)
    refine P_icmp_le (tgt := 26) dX5_isAhead_19 rfl h (fun h => ?_) (fun h => ?_)
    · refine S_iconst dX5_isAhead_26 rfl ?_
      refine S_weak (ls' := [(9, 0), (9, 0), (9, 0), (9, 0), (9, 0)]) ⟨Or.inl rfl, ⟨Or.inl rfl, ⟨Or.inl rfl, ⟨Or.inl rfl, ⟨Or.inl rfl, trivial⟩⟩⟩⟩⟩ ?_
      exact s_X5_isAhead_27 hD r0 h hz
    · refine S_iconst dX5_isAhead_22 rfl ?_
      refine S_goto (tgt := 27) dX5_isAhead_23 rfl ?_
      refine S_weak (ls' := [(9, 0), (9, 0), (9, 0), (9, 0), (9, 0)]) ⟨Or.inl rfl, ⟨Or.inl rfl, ⟨Or.inl rfl, ⟨Or.inl rfl, ⟨Or.inl rfl, trivial⟩⟩⟩⟩⟩ ?_
      exact s_X5_isAhead_27 hD r0 h hz
theorem F_X5_isAhead {g : GG} {d : Nat} (hD : 0 ≤ d) {x0 x1 x2 x3 x4 : Int} {M : MM} {r : Int} (h : f_X5_isAhead x0 x1 x2 x3 x4 M = some r) : Sem g d YX5_isAhead 0 (ini YX5_isAhead [(1, x0), (0, x1), (0, x2), (0, x3), (0, x4)]) [] M ((0, r), M) := by
  change Sem g d YX5_isAhead 0 [(1, x0), (0, x1), (0, x2), (0, x3), (0, x4)] [] M ((0, r), M)
  exact s_X5_isAhead_0 hD (P := fun x => x = r) (fun q e => by rw [e]) h rfl
/-! PeerSearch$Ranking.add(III)V -/
theorem dX5_add_0 : decode cX5_add 0 = .ok (.aload_n 0, 1) := by decide +kernel
theorem dX5_add_1 : decode cX5_add 1 = .ok (.getfield 19, 3) := by decide +kernel
theorem dX5_add_4 : decode cX5_add 4 = .ok (.istore 4, 2) := by decide +kernel
theorem dX5_add_6 : decode cX5_add 6 = .ok (.iload 4, 2) := by decide +kernel
theorem dX5_add_8 : decode cX5_add 8 = .ok (.ifCond .le 23, 3) := by decide +kernel
theorem dX5_add_11 : decode cX5_add 11 = .ok (.aload_n 0, 1) := by decide +kernel
theorem dX5_add_12 : decode cX5_add 12 = .ok (.iload_n 1, 1) := by decide +kernel
theorem dX5_add_13 : decode cX5_add 13 = .ok (.iload_n 2, 1) := by decide +kernel
theorem dX5_add_14 : decode cX5_add 14 = .ok (.iload_n 3, 1) := by decide +kernel
theorem dX5_add_15 : decode cX5_add 15 = .ok (.iload 4, 2) := by decide +kernel
theorem dX5_add_17 : decode cX5_add 17 = .ok (.iconst 1, 1) := by decide +kernel
theorem dX5_add_18 : decode cX5_add 18 = .ok (.isub, 1) := by decide +kernel
theorem dX5_add_19 : decode cX5_add 19 = .ok (.invokevirtual 23, 3) := by decide +kernel
theorem dX5_add_22 : decode cX5_add 22 = .ok (.ifCond .eq 9, 3) := by decide +kernel
theorem dX5_add_25 : decode cX5_add 25 = .ok (.iinc 4 (-1), 3) := by decide +kernel
theorem dX5_add_28 : decode cX5_add 28 = .ok (.goto (-22), 3) := by decide +kernel
theorem dX5_add_31 : decode cX5_add 31 = .ok (.iload 4, 2) := by decide +kernel
theorem dX5_add_33 : decode cX5_add 33 = .ok (.aload_n 0, 1) := by decide +kernel
theorem dX5_add_34 : decode cX5_add 34 = .ok (.getfield 16, 3) := by decide +kernel
theorem dX5_add_37 : decode cX5_add 37 = .ok (.arraylength, 1) := by decide +kernel
theorem dX5_add_38 : decode cX5_add 38 = .ok (.if_icmp .ne 4, 3) := by decide +kernel
theorem dX5_add_41 : decode cX5_add 41 = .ok (.return_, 1) := by decide +kernel
theorem dX5_add_42 : decode cX5_add 42 = .ok (.aload_n 0, 1) := by decide +kernel
theorem dX5_add_43 : decode cX5_add 43 = .ok (.aload_n 0, 1) := by decide +kernel
theorem dX5_add_44 : decode cX5_add 44 = .ok (.getfield 19, 3) := by decide +kernel
theorem dX5_add_47 : decode cX5_add 47 = .ok (.iconst 1, 1) := by decide +kernel
theorem dX5_add_48 : decode cX5_add 48 = .ok (.iadd, 1) := by decide +kernel
theorem dX5_add_49 : decode cX5_add 49 = .ok (.aload_n 0, 1) := by decide +kernel
theorem dX5_add_50 : decode cX5_add 50 = .ok (.getfield 16, 3) := by decide +kernel
theorem dX5_add_53 : decode cX5_add 53 = .ok (.arraylength, 1) := by decide +kernel
theorem dX5_add_54 : decode cX5_add 54 = .ok (.invokestatic 27, 3) := by decide +kernel
theorem dX5_add_57 : decode cX5_add 57 = .ok (.putfield 19, 3) := by decide +kernel
theorem dX5_add_60 : decode cX5_add 60 = .ok (.aload_n 0, 1) := by decide +kernel
theorem dX5_add_61 : decode cX5_add 61 = .ok (.getfield 19, 3) := by decide +kernel
theorem dX5_add_64 : decode cX5_add 64 = .ok (.iconst 1, 1) := by decide +kernel
theorem dX5_add_65 : decode cX5_add 65 = .ok (.isub, 1) := by decide +kernel
theorem dX5_add_66 : decode cX5_add 66 = .ok (.istore 5, 2) := by decide +kernel
theorem dX5_add_68 : decode cX5_add 68 = .ok (.iload 5, 2) := by decide +kernel
theorem dX5_add_70 : decode cX5_add 70 = .ok (.iload 4, 2) := by decide +kernel
theorem dX5_add_72 : decode cX5_add 72 = .ok (.if_icmp .le 57, 3) := by decide +kernel
theorem dX5_add_75 : decode cX5_add 75 = .ok (.aload_n 0, 1) := by decide +kernel
theorem dX5_add_76 : decode cX5_add 76 = .ok (.getfield 7, 3) := by decide +kernel
theorem dX5_add_79 : decode cX5_add 79 = .ok (.iload 5, 2) := by decide +kernel
theorem dX5_add_81 : decode cX5_add 81 = .ok (.aload_n 0, 1) := by decide +kernel
theorem dX5_add_82 : decode cX5_add 82 = .ok (.getfield 7, 3) := by decide +kernel
theorem dX5_add_85 : decode cX5_add 85 = .ok (.iload 5, 2) := by decide +kernel
theorem dX5_add_87 : decode cX5_add 87 = .ok (.iconst 1, 1) := by decide +kernel
theorem dX5_add_88 : decode cX5_add 88 = .ok (.isub, 1) := by decide +kernel
theorem dX5_add_89 : decode cX5_add 89 = .ok (.iaload, 1) := by decide +kernel
theorem dX5_add_90 : decode cX5_add 90 = .ok (.iastore, 1) := by decide +kernel
theorem dX5_add_91 : decode cX5_add 91 = .ok (.aload_n 0, 1) := by decide +kernel
theorem dX5_add_92 : decode cX5_add 92 = .ok (.getfield 13, 3) := by decide +kernel
theorem dX5_add_95 : decode cX5_add 95 = .ok (.iload 5, 2) := by decide +kernel
theorem dX5_add_97 : decode cX5_add 97 = .ok (.aload_n 0, 1) := by decide +kernel
theorem dX5_add_98 : decode cX5_add 98 = .ok (.getfield 13, 3) := by decide +kernel
theorem dX5_add_101 : decode cX5_add 101 = .ok (.iload 5, 2) := by decide +kernel
theorem dX5_add_103 : decode cX5_add 103 = .ok (.iconst 1, 1) := by decide +kernel
theorem dX5_add_104 : decode cX5_add 104 = .ok (.isub, 1) := by decide +kernel
theorem dX5_add_105 : decode cX5_add 105 = .ok (.iaload, 1) := by decide +kernel
theorem dX5_add_106 : decode cX5_add 106 = .ok (.iastore, 1) := by decide +kernel
theorem dX5_add_107 : decode cX5_add 107 = .ok (.aload_n 0, 1) := by decide +kernel
theorem dX5_add_108 : decode cX5_add 108 = .ok (.getfield 16, 3) := by decide +kernel
theorem dX5_add_111 : decode cX5_add 111 = .ok (.iload 5, 2) := by decide +kernel
theorem dX5_add_113 : decode cX5_add 113 = .ok (.aload_n 0, 1) := by decide +kernel
theorem dX5_add_114 : decode cX5_add 114 = .ok (.getfield 16, 3) := by decide +kernel
theorem dX5_add_117 : decode cX5_add 117 = .ok (.iload 5, 2) := by decide +kernel
theorem dX5_add_119 : decode cX5_add 119 = .ok (.iconst 1, 1) := by decide +kernel
theorem dX5_add_120 : decode cX5_add 120 = .ok (.isub, 1) := by decide +kernel
theorem dX5_add_121 : decode cX5_add 121 = .ok (.iaload, 1) := by decide +kernel
theorem dX5_add_122 : decode cX5_add 122 = .ok (.iastore, 1) := by decide +kernel
theorem dX5_add_123 : decode cX5_add 123 = .ok (.iinc 5 (-1), 3) := by decide +kernel
theorem dX5_add_126 : decode cX5_add 126 = .ok (.goto (-58), 3) := by decide +kernel
theorem dX5_add_129 : decode cX5_add 129 = .ok (.aload_n 0, 1) := by decide +kernel
theorem dX5_add_130 : decode cX5_add 130 = .ok (.getfield 7, 3) := by decide +kernel
theorem dX5_add_133 : decode cX5_add 133 = .ok (.iload 4, 2) := by decide +kernel
theorem dX5_add_135 : decode cX5_add 135 = .ok (.iload_n 1, 1) := by decide +kernel
theorem dX5_add_136 : decode cX5_add 136 = .ok (.iastore, 1) := by decide +kernel
theorem dX5_add_137 : decode cX5_add 137 = .ok (.aload_n 0, 1) := by decide +kernel
theorem dX5_add_138 : decode cX5_add 138 = .ok (.getfield 13, 3) := by decide +kernel
theorem dX5_add_141 : decode cX5_add 141 = .ok (.iload 4, 2) := by decide +kernel
theorem dX5_add_143 : decode cX5_add 143 = .ok (.iload_n 2, 1) := by decide +kernel
theorem dX5_add_144 : decode cX5_add 144 = .ok (.iastore, 1) := by decide +kernel
theorem dX5_add_145 : decode cX5_add 145 = .ok (.aload_n 0, 1) := by decide +kernel
theorem dX5_add_146 : decode cX5_add 146 = .ok (.getfield 16, 3) := by decide +kernel
theorem dX5_add_149 : decode cX5_add 149 = .ok (.iload 4, 2) := by decide +kernel
theorem dX5_add_151 : decode cX5_add 151 = .ok (.iload_n 3, 1) := by decide +kernel
theorem dX5_add_152 : decode cX5_add 152 = .ok (.iastore, 1) := by decide +kernel
theorem dX5_add_153 : decode cX5_add 153 = .ok (.return_, 1) := by decide +kernel
def j_X5_add_129 (x0 x1 x2 x3 x4 : Int) (M : MM) : Option (MM) :=
  (gfr 5 0 x0 M).bind fun v1 =>
  (sai v1 x4 x1 M).bind fun M1 =>
  (gfr 5 1 x0 M1).bind fun v2 =>
  (sai v2 x4 x2 M1).bind fun M2 =>
  (gfr 5 2 x0 M2).bind fun v3 =>
  (sai v3 x4 x3 M2).bind fun M3 =>
  some M3
def b_X5_add_68 (x0 x1 x2 x3 x4 x5 : Int) (M : MM) : Option ((Int × MM) ⊕ (MM)) :=
  if w32 x4 < w32 x5 then
    (gfr 5 0 x0 M).bind fun v1 =>
    (gfr 5 0 x0 M).bind fun v2 =>
    (lai v2 (x5 - 1) M).bind fun v3 =>
    (sai v1 x5 v3 M).bind fun M1 =>
    (gfr 5 1 x0 M1).bind fun v4 =>
    (gfr 5 1 x0 M1).bind fun v5 =>
    (lai v5 (x5 - 1) M1).bind fun v6 =>
    (sai v4 x5 v6 M1).bind fun M2 =>
    (gfr 5 2 x0 M2).bind fun v7 =>
    (gfr 5 2 x0 M2).bind fun v8 =>
    (lai v8 (x5 - 1) M2).bind fun v9 =>
    (sai v7 x5 v9 M2).bind fun M3 =>
    cnt (x5 + (-1), M3)
  else
    xit (j_X5_add_129 x0 x1 x2 x3 x4 M)
def l_X5_add_68 (x0 x1 x2 x3 x4 x5 : Int) (M : MM) : Option (MM) := lpN (fun s : Int × MM => b_X5_add_68 x0 x1 x2 x3 x4 s.1 s.2) FU (x5, M)
def j_X5_add_31 (x0 x1 x2 x3 x4 : Int) (M : MM) : Option (MM) :=
  (gfr 5 2 x0 M).bind fun v1 =>
  (aln 0 v1 M).bind fun v2 =>
  if w32 x4 = w32 v2 then
    some M
  else
    (gfi 5 3 x0 M).bind fun v3 =>
    (gfr 5 2 x0 M).bind fun v4 =>
    (aln 0 v4 M).bind fun v5 =>
    (pfi 5 3 x0 (jmin (v3 + 1) v5) M).bind fun M1 =>
    (gfi 5 3 x0 M1).bind fun v6 =>
    l_X5_add_68 x0 x1 x2 x3 x4 (v6 - 1) M1
def b_X5_add_6 (x0 x1 x2 x3 x4 : Int) (M : MM) : Option ((Int) ⊕ (MM)) :=
  if 0 < w32 x4 then
    ck 5 x0 M <| (f_X5_isAhead x0 x1 x2 x3 (x4 - 1) M).bind fun v1 =>
    if w32 v1 = 0 then
      xit (j_X5_add_31 x0 x1 x2 x3 x4 M)
    else
      cnt (x4 + (-1))
  else
    xit (j_X5_add_31 x0 x1 x2 x3 x4 M)
def l_X5_add_6 (x0 x1 x2 x3 x4 : Int) (M : MM) : Option (MM) := lpN (fun s : Int => b_X5_add_6 x0 x1 x2 x3 s M) FU x4
def f_X5_add (x0 x1 x2 x3 : Int) (M : MM) : Option (MM) :=
  (gfi 5 3 x0 M).bind fun v1 =>
  l_X5_add_6 x0 x1 x2 x3 v1 M
theorem s_X5_add_129 {g : GG} {d : Nat} (hD : 1 ≤ d) {x0 x1 x2 x3 x4 : Int} {M : MM} {o : AV × MM} {P : (MM) → Prop} (r0 : ∀ r : MM, P r → o = ((9, 0), r)) {z : MM} (h : j_X5_add_129 x0 x1 x2 x3 x4 M = some z) (hz : P z) : Sem g d YX5_add 129 [(1, x0), (0, x1), (0, x2), (0, x3), (0, x4), (9, 0)] [] M o := by
  delta j_X5_add_129 at h
  refine S_aload_n (i := 0) dX5_add_129 rfl rfl ?_
  refine P_gfr FLX5_7 rfl dX5_add_130 h (fun v1 h => ?_)
  refine S_iload dX5_add_133 rfl ?_
  refine S_iload_n (i := 1) dX5_add_135 rfl rfl ?_
  refine P_sai dX5_add_136 h (fun M1 h => ?_)
  refine S_aload_n (i := 0) dX5_add_137 rfl rfl ?_
  refine P_gfr FLX5_13 rfl dX5_add_138 h (fun v2 h => ?_)
  refine S_iload dX5_add_141 rfl ?_
  refine S_iload_n (i := 2) dX5_add_143 rfl rfl ?_
  refine P_sai dX5_add_144 h (fun M2 h => ?_)
  refine S_aload_n (i := 0) dX5_add_145 rfl rfl ?_
  refine P_gfr FLX5_16 rfl dX5_add_146 h (fun v3 h => ?_)
  refine S_iload dX5_add_149 rfl ?_
  refine S_iload_n (i := 3) dX5_add_151 rfl rfl ?_
  refine P_sai dX5_add_152 h (fun M3 h => ?_)
  obtain rfl := r0 _ (some_P (P := fun r => P r) h hz)
  exact S_return dX5_add_153 rfl
theorem s_X5_add_68 {g : GG} {d : Nat} (hD : 1 ≤ d) {x0 x1 x2 x3 x4 x5 : Int} {M : MM} {o : AV × MM} {P : ((Int × MM) ⊕ (MM)) → Prop} (c0 : ∀ s : Int × MM, P (.inl s) → Sem g d YX5_add 68 [(1, x0), (0, x1), (0, x2), (0, x3), (0, x4), (0, s.1)] [] s.2 o) (r0 : ∀ r : MM, P (.inr r) → o = ((9, 0), r)) {z : (Int × MM) ⊕ (MM)} (h : b_X5_add_68 x0 x1 x2 x3 x4 x5 M = some z) (hz : P z) : Sem g d YX5_add 68 [(1, x0), (0, x1), (0, x2), (0, x3), (0, x4), (0, x5)] [] M o := by
  delta b_X5_add_68 at h
  refine S_iload dX5_add_68 rfl ?_
  refine S_iload dX5_add_70 rfl ?_
  refine P_icmp_le (tgt := 129) dX5_add_72 rfl h (fun h => ?_) (fun h => ?_)
  · refine S_weak (ls' := [(1, x0), (0, x1), (0, x2), (0, x3), (0, x4), (9, 0)]) ⟨Or.inr rfl, ⟨Or.inr rfl, ⟨Or.inr rfl, ⟨Or.inr rfl, ⟨Or.inr rfl, ⟨Or.inl rfl, trivial⟩⟩⟩⟩⟩⟩ ?_
    obtain ⟨z0, h, hz⟩ := xit_some' (P := fun r => P r) h hz
    exact s_X5_add_129 hD (P := fun r => P (.inr r)) r0 h hz
  · refine S_aload_n (i := 0) dX5_add_75 rfl rfl ?_
    refine P_gfr FLX5_7 rfl dX5_add_76 h (fun v1 h => ?_)
    refine S_iload dX5_add_79 rfl ?_
    refine S_aload_n (i := 0) dX5_add_81 rfl rfl ?_
    refine P_gfr FLX5_7 rfl dX5_add_82 h (fun v2 h => ?_)
    refine S_iload dX5_add_85 rfl ?_
    refine S_iconst dX5_add_87 rfl ?_
    refine S_isub dX5_add_88 ?_
    refine P_lai dX5_add_89 h (fun v3 h => ?_)
    refine P_sai dX5_add_90 h (fun M1 h => ?_)
    refine S_aload_n (i := 0) dX5_add_91 rfl rfl ?_
    refine P_gfr FLX5_13 rfl dX5_add_92 h (fun v4 h => ?_)
    refine S_iload dX5_add_95 rfl ?_
    refine S_aload_n (i := 0) dX5_add_97 rfl rfl ?_
    refine P_gfr FLX5_13 rfl dX5_add_98 h (fun v5 h => ?_)
    refine S_iload dX5_add_101 rfl ?_
    refine S_iconst dX5_add_103 rfl ?_
    refine S_isub dX5_add_104 ?_
    refine P_lai dX5_add_105 h (fun v6 h => ?_)
    refine P_sai dX5_add_106 h (fun M2 h => ?_)
    refine S_aload_n (i := 0) dX5_add_107 rfl rfl ?_
    refine P_gfr FLX5_16 rfl dX5_add_108 h (fun v7 h => ?_)
    refine S_iload dX5_add_111 rfl ?_
    refine S_aload_n (i := 0) dX5_add_113 rfl rfl ?_
    refine P_gfr FLX5_16 rfl dX5_add_114 h (fun v8 h => ?_)
    refine S_iload dX5_add_117 rfl ?_
    refine S_iconst dX5_add_119 rfl ?_
    refine S_isub dX5_add_120 ?_
    refine P_lai dX5_add_121 h (fun v9 h => ?_)
    refine P_sai dX5_add_122 h (fun M3 h => ?_)
    refine S_iinc dX5_add_123 rfl rfl rfl ?_
    change Sem g d YX5_add 126 [(1, x0), (0, x1), (0, x2), (0, x3), (0, x4), (0, x5 + (-1))] [] M3 o
    refine S_goto (tgt := 68) dX5_add_126 rfl ?_
    exact c0 (x5 + (-1), M3) (some_P (P := fun r => P r) h hz)
theorem sl_X5_add_68 {g : GG} {d : Nat} (hD : 1 ≤ d) {x0 x1 x2 x3 x4 x5 : Int} {M : MM} {o : AV × MM} {P : (MM) → Prop} (r0 : ∀ r : MM, P r → o = ((9, 0), r)) {z : MM} (h : l_X5_add_68 x0 x1 x2 x3 x4 x5 M = some z) (hz : P z) : Sem g d YX5_add 68 [(1, x0), (0, x1), (0, x2), (0, x3), (0, x4), (0, x5)] [] M o := by
  refine lp_sound (S := fun s : Int × MM => Sem g d YX5_add 68 [(1, x0), (0, x1), (0, x2), (0, x3), (0, x4), (0, s.1)] [] s.2 o) (P := P) ?_ FU (x5, M) z h hz
  intro s x hx hP
  exact s_X5_add_68 hD (P := Sum.elim (fun s : Int × MM => Sem g d YX5_add 68 [(1, x0), (0, x1), (0, x2), (0, x3), (0, x4), (0, s.1)] [] s.2 o) P) (fun s h => h) (fun s h => r0 s h) hx hP
theorem s_X5_add_31 {g : GG} {d : Nat} (hD : 1 ≤ d) {x0 x1 x2 x3 x4 : Int} {M : MM} {o : AV × MM} {P : (MM) → Prop} (r0 : ∀ r : MM, P r → o = ((9, 0), r)) {z : MM} (h : j_X5_add_31 x0 x1 x2 x3 x4 M = some z) (hz : P z) : Sem g d YX5_add 31 [(1, x0), (0, x1), (0, x2), (0, x3), (0, x4), (9, 0)] [] M o := by
  delta j_X5_add_31 at h
  refine S_iload dX5_add_31 rfl ?_
  refine S_aload_n (i := 0) dX5_add_33 rfl rfl ?_
  refine P_gfr FLX5_16 rfl dX5_add_34 h (fun v1 h => ?_)
  refine P_aln (t := 0) (by decide) dX5_add_37 h (fun v2 h => ?_)
  refine P_icmp_ne (tgt := 42) dX5_add_38 rfl h (fun h => ?_) (fun h => ?_)
  · refine S_aload_n (i := 0) dX5_add_42 rfl rfl ?_
    refine S_aload_n (i := 0) dX5_add_43 rfl rfl ?_
    refine P_gfi FLX5_19 rfl dX5_add_44 h (fun v3 h => ?_)
    refine S_iconst dX5_add_47 rfl ?_
    refine S_iadd dX5_add_48 ?_
    refine S_aload_n (i := 0) dX5_add_49 rfl rfl ?_
    refine P_gfr FLX5_16 rfl dX5_add_50 h (fun v4 h => ?_)
    refine P_aln (t := 0) (by decide) dX5_add_53 h (fun v5 h => ?_)
    refine S_min q1428 dX5_add_54 rfl (by omega) ?_
    refine P_pfi FLX5_19 FPX5_19 rfl dX5_add_57 h (fun M1 h => ?_)
    refine S_aload_n (i := 0) dX5_add_60 rfl rfl ?_
    refine P_gfi FLX5_19 rfl dX5_add_61 h (fun v6 h => ?_)
    refine S_iconst dX5_add_64 rfl ?_
    refine S_isub dX5_add_65 ?_
    refine S_istore dX5_add_66 (Nat.le_of_ble_eq_true rfl) rfl rfl ?_
    change Sem g d YX5_add 68 [(1, x0), (0, x1), (0, x2), (0, x3), (0, x4), (0, v6 - 1)] [] M1 o
    exact sl_X5_add_68 hD r0 h hz
  · obtain rfl := r0 _ (some_P (P := fun r => P r) h hz)
    exact S_return dX5_add_41 rfl
theorem s_X5_add_6 {g : GG} {d : Nat} (hD : 1 ≤ d) {x0 x1 x2 x3 x4 : Int} {M : MM} {o : AV × MM} {P : ((Int) ⊕ (MM)) → Prop} (c0 : ∀ s : Int, P (.inl s) → Sem g d YX5_add 6 [(1, x0), (0, x1), (0, x2), (0, x3), (0, s), (9, 0)] [] M o) (r0 : ∀ r : MM, P (.inr r) → o = ((9, 0), r)) {z : (Int) ⊕ (MM)} (h : b_X5_add_6 x0 x1 x2 x3 x4 M = some z) (hz : P z) : Sem g d YX5_add 6 [(1, x0), (0, x1), (0, x2), (0, x3), (0, x4), (9, 0)] [] M o := by
  delta b_X5_add_6 at h
  refine S_iload dX5_add_6 rfl ?_
  refine P_if_le (tgt := 31) dX5_add_8 rfl h (fun h => ?_) (fun h => ?_)
  · obtain ⟨z0, h, hz⟩ := xit_some' (P := fun r => P r) h hz
    exact s_X5_add_31 hD (P := fun r => P (.inr r)) r0 h hz
  · refine S_aload_n (i := 0) dX5_add_11 rfl rfl ?_
    refine S_iload_n (i := 1) dX5_add_12 rfl rfl ?_
    refine S_iload_n (i := 2) dX5_add_13 rfl rfl ?_
    refine S_iload_n (i := 3) dX5_add_14 rfl rfl ?_
    refine S_iload dX5_add_15 rfl ?_
    refine S_iconst dX5_add_17 rfl ?_
    refine S_isub dX5_add_18 ?_
    refine P_invVp 0 [(0, x1), (0, x2), (0, x3), (0, x4 - 1)] [] CVX5_isAhead MLX5_23 dX5_add_19 rfl rfl rfl rfl rfl (by omega) h (fun r h => F_X5_isAhead (by omega) h) (fun v1 h => ?_)
    refine P_if_eq (tgt := 31) dX5_add_22 rfl h (fun h => ?_) (fun h => ?_)
    · obtain ⟨z0, h, hz⟩ := xit_some' (P := fun r => P r) h hz
      exact s_X5_add_31 hD (P := fun r => P (.inr r)) r0 h hz
    · refine S_iinc dX5_add_25 rfl rfl rfl ?_
      change Sem g d YX5_add 28 [(1, x0), (0, x1), (0, x2), (0, x3), (0, x4 + (-1)), (9, 0)] [] M o
      refine S_goto (tgt := 6) dX5_add_28 rfl ?_
      exact c0 (x4 + (-1)) (some_P (P := fun r => P r) h hz)
theorem sl_X5_add_6 {g : GG} {d : Nat} (hD : 1 ≤ d) {x0 x1 x2 x3 x4 : Int} {M : MM} {o : AV × MM} {P : (MM) → Prop} (r0 : ∀ r : MM, P r → o = ((9, 0), r)) {z : MM} (h : l_X5_add_6 x0 x1 x2 x3 x4 M = some z) (hz : P z) : Sem g d YX5_add 6 [(1, x0), (0, x1), (0, x2), (0, x3), (0, x4), (9, 0)] [] M o := by
  refine lp_sound (S := fun s : Int => Sem g d YX5_add 6 [(1, x0), (0, x1), (0, x2), (0, x3), (0, s), (9, 0)] [] M o) (P := P) ?_ FU x4 z h hz
  intro s x hx hP
  exact s_X5_add_6 hD (P := Sum.elim (fun s : Int => Sem g d YX5_add 6 [(1, x0), (0, x1), (0, x2), (0, x3), (0, s), (9, 0)] [] M o) P) (fun s h => h) (fun s h => r0 s h) hx hP
theorem s_X5_add_0 {g : GG} {d : Nat} (hD : 1 ≤ d) {x0 x1 x2 x3 : Int} {M : MM} {o : AV × MM} {P : (MM) → Prop} (r0 : ∀ r : MM, P r → o = ((9, 0), r)) {z : MM} (h : f_X5_add x0 x1 x2 x3 M = some z) (hz : P z) : Sem g d YX5_add 0 [(1, x0), (0, x1), (0, x2), (0, x3), (9, 0), (9, 0)] [] M o := by
  delta f_X5_add at h
  refine S_aload_n (i := 0) dX5_add_0 rfl rfl ?_
  refine P_gfi FLX5_19 rfl dX5_add_1 h (fun v1 h => ?_)
  refine S_istore dX5_add_4 (Nat.le_of_ble_eq_true rfl) rfl rfl ?_
  change Sem g d YX5_add 6 [(1, x0), (0, x1), (0, x2), (0, x3), (0, v1), (9, 0)] [] M o
  exact sl_X5_add_6 hD r0 h hz
theorem F_X5_add {g : GG} {d : Nat} (hD : 1 ≤ d) {x0 x1 x2 x3 : Int} {M : MM} {r : MM} (h : f_X5_add x0 x1 x2 x3 M = some r) : Sem g d YX5_add 0 (ini YX5_add [(1, x0), (0, x1), (0, x2), (0, x3)]) [] M ((9, 0), r) := by
  change Sem g d YX5_add 0 [(1, x0), (0, x1), (0, x2), (0, x3), (9, 0), (9, 0)] [] M ((9, 0), r)
  exact s_X5_add_0 hD (P := fun x => x = r) (fun q e => by rw [e]) h rfl
/-! PeerSearch$Ranking.begin()V -/
theorem dX5_begin_0 : decode cX5_begin 0 = .ok (.aload_n 0, 1) := by decide +kernel
theorem dX5_begin_1 : decode cX5_begin 1 = .ok (.iconst 0, 1) := by decide +kernel
theorem dX5_begin_2 : decode cX5_begin 2 = .ok (.putfield 19, 3) := by decide +kernel
theorem dX5_begin_5 : decode cX5_begin 5 = .ok (.return_, 1) := by decide +kernel
def f_X5_begin (x0 : Int) (M : MM) : Option (MM) :=
  (pfi 5 3 x0 0 M).bind fun M1 =>
  some M1
theorem s_X5_begin_0 {g : GG} {d : Nat} (hD : 0 ≤ d) {x0 : Int} {M : MM} {o : AV × MM} {P : (MM) → Prop} (r0 : ∀ r : MM, P r → o = ((9, 0), r)) {z : MM} (h : f_X5_begin x0 M = some z) (hz : P z) : Sem g d YX5_begin 0 [(1, x0)] [] M o := by
  delta f_X5_begin at h
  refine S_aload_n (i := 0) dX5_begin_0 rfl rfl ?_
  refine S_iconst dX5_begin_1 rfl ?_
  refine P_pfi FLX5_19 FPX5_19 rfl dX5_begin_2 h (fun M1 h => ?_)
  obtain rfl := r0 _ (some_P (P := fun r => P r) h hz)
  exact S_return dX5_begin_5 rfl
theorem F_X5_begin {g : GG} {d : Nat} (hD : 0 ≤ d) {x0 : Int} {M : MM} {r : MM} (h : f_X5_begin x0 M = some r) : Sem g d YX5_begin 0 (ini YX5_begin [(1, x0)]) [] M ((9, 0), r) := by
  change Sem g d YX5_begin 0 [(1, x0)] [] M ((9, 0), r)
  exact s_X5_begin_0 hD (P := fun x => x = r) (fun q e => by rw [e]) h rfl
/-! PeerSearch$Ranking.told(II)I -/
theorem dX5_told_0 : decode cX5_told 0 = .ok (.iload_n 2, 1) := by decide +kernel
theorem dX5_told_1 : decode cX5_told 1 = .ok (.ifCond .ne 12, 3) := by decide +kernel
theorem dX5_told_4 : decode cX5_told 4 = .ok (.aload_n 0, 1) := by decide +kernel
theorem dX5_told_5 : decode cX5_told 5 = .ok (.getfield 7, 3) := by decide +kernel
theorem dX5_told_8 : decode cX5_told 8 = .ok (.iload_n 1, 1) := by decide +kernel
theorem dX5_told_9 : decode cX5_told 9 = .ok (.iaload, 1) := by decide +kernel
theorem dX5_told_10 : decode cX5_told 10 = .ok (.goto 23, 3) := by decide +kernel
theorem dX5_told_13 : decode cX5_told 13 = .ok (.iload_n 2, 1) := by decide +kernel
theorem dX5_told_14 : decode cX5_told 14 = .ok (.iconst 1, 1) := by decide +kernel
theorem dX5_told_15 : decode cX5_told 15 = .ok (.if_icmp .ne 12, 3) := by decide +kernel
theorem dX5_told_18 : decode cX5_told 18 = .ok (.aload_n 0, 1) := by decide +kernel
theorem dX5_told_19 : decode cX5_told 19 = .ok (.getfield 13, 3) := by decide +kernel
theorem dX5_told_22 : decode cX5_told 22 = .ok (.iload_n 1, 1) := by decide +kernel
theorem dX5_told_23 : decode cX5_told 23 = .ok (.iaload, 1) := by decide +kernel
theorem dX5_told_24 : decode cX5_told 24 = .ok (.goto 9, 3) := by decide +kernel
theorem dX5_told_27 : decode cX5_told 27 = .ok (.aload_n 0, 1) := by decide +kernel
theorem dX5_told_28 : decode cX5_told 28 = .ok (.getfield 16, 3) := by decide +kernel
theorem dX5_told_31 : decode cX5_told 31 = .ok (.iload_n 1, 1) := by decide +kernel
theorem dX5_told_32 : decode cX5_told 32 = .ok (.iaload, 1) := by decide +kernel
theorem dX5_told_33 : decode cX5_told 33 = .ok (.ireturn, 1) := by decide +kernel
def j_X5_told_33 (y0 : Int) (M : MM) : Option (Int) :=
  some y0
def f_X5_told (x0 x1 x2 : Int) (M : MM) : Option (Int) :=
  if w32 x2 = 0 then
    (gfr 5 0 x0 M).bind fun v5 =>
    (lai v5 x1 M).bind fun v6 =>
    j_X5_told_33 v6 M
  else
    if w32 x2 = w32 1 then
      (gfr 5 1 x0 M).bind fun v3 =>
      (lai v3 x1 M).bind fun v4 =>
      j_X5_told_33 v4 M
    else
      (gfr 5 2 x0 M).bind fun v1 =>
      (lai v1 x1 M).bind fun v2 =>
      j_X5_told_33 v2 M
theorem s_X5_told_33 {g : GG} {d : Nat} (hD : 0 ≤ d) {y0 : Int} {M : MM} {o : AV × MM} {P : (Int) → Prop} (r0 : ∀ r : Int, P r → o = ((0, r), M)) {z : Int} (h : j_X5_told_33 y0 M = some z) (hz : P z) : Sem g d YX5_told 33 [(9, 0), (9, 0), (9, 0)] [(0, y0)] M o := by
  delta j_X5_told_33 at h
  obtain rfl := r0 _ (some_P (P := fun r => P r) h hz)
  exact P_ret dX5_told_33 rfl (Or.inl rfl)
theorem s_X5_told_0 {g : GG} {d : Nat} (hD : 0 ≤ d) {x0 x1 x2 : Int} {M : MM} {o : AV × MM} {P : (Int) → Prop} (r0 : ∀ r : Int, P r → o = ((0, r), M)) {z : Int} (h : f_X5_told x0 x1 x2 M = some z) (hz : P z) : Sem g d YX5_told 0 [(1, x0), (0, x1), (0, x2)] [] M o := by
  delta f_X5_told at h
  refine S_iload_n (i := 2) dX5_told_0 rfl rfl ?_
  refine P_if_ne (tgt := 13) dX5_told_1 rfl h (fun h => ?_) (fun h => ?_)
  · refine S_iload_n (i := 2) dX5_told_13 rfl rfl ?_
    refine S_iconst dX5_told_14 rfl ?_
    refine P_icmp_ne (tgt := 27) dX5_told_15 rfl h (fun h => ?_) (fun h => ?_)
    · refine S_aload_n (i := 0) dX5_told_27 rfl rfl ?_
      refine P_gfr FLX5_16 rfl dX5_told_28 h (fun v1 h => ?_)
      refine S_iload_n (i := 1) dX5_told_31 rfl rfl ?_
      refine P_lai dX5_told_32 h (fun v2 h => ?_)
      refine S_weak (ls' := [(9, 0), (9, 0), (9, 0)]) ⟨Or.inl rfl, ⟨Or.inl rfl, ⟨Or.inl rfl, trivial⟩⟩⟩ ?_
      exact s_X5_told_33 hD r0 h hz
    · refine S_aload_n (i := 0) dX5_told_18 rfl rfl ?_
      refine P_gfr FLX5_13 rfl dX5_told_19 h (fun v3 h => ?_)
      refine S_iload_n (i := 1) dX5_told_22 rfl rfl ?_
      refine P_lai dX5_told_23 h (fun v4 h => ?_)
      refine S_goto (tgt := 33) dX5_told_24 rfl ?_
      refine S_weak (ls' := [(9, 0), (9, 0), (9, 0)]) ⟨Or.inl rfl, ⟨Or.inl rfl, ⟨Or.inl rfl, trivial⟩⟩⟩ ?_
      exact s_X5_told_33 hD r0 h hz
  · refine S_aload_n (i := 0) dX5_told_4 rfl rfl ?_
    refine P_gfr FLX5_7 rfl dX5_told_5 h (fun v5 h => ?_)
    refine S_iload_n (i := 1) dX5_told_8 rfl rfl ?_
    refine P_lai dX5_told_9 h (fun v6 h => ?_)
    refine S_goto (tgt := 33) dX5_told_10 rfl ?_
    refine S_weak (ls' := [(9, 0), (9, 0), (9, 0)]) ⟨Or.inl rfl, ⟨Or.inl rfl, ⟨Or.inl rfl, trivial⟩⟩⟩ ?_
    exact s_X5_told_33 hD r0 h hz
theorem F_X5_told {g : GG} {d : Nat} (hD : 0 ≤ d) {x0 x1 x2 : Int} {M : MM} {r : Int} (h : f_X5_told x0 x1 x2 M = some r) : Sem g d YX5_told 0 (ini YX5_told [(1, x0), (0, x1), (0, x2)]) [] M ((0, r), M) := by
  change Sem g d YX5_told 0 [(1, x0), (0, x1), (0, x2)] [] M ((0, r), M)
  exact s_X5_told_0 hD (P := fun x => x = r) (fun q e => by rw [e]) h rfl
/-! PeerSearch$Task.tell(II)V -/
theorem dX26_tell_0 : decode cX26_tell 0 = .ok (.aload_n 0, 1) := by decide +kernel
theorem dX26_tell_1 : decode cX26_tell 1 = .ok (.iload_n 1, 1) := by decide +kernel
theorem dX26_tell_2 : decode cX26_tell 2 = .ok (.putfield 16, 3) := by decide +kernel
theorem dX26_tell_5 : decode cX26_tell 5 = .ok (.aload_n 0, 1) := by decide +kernel
theorem dX26_tell_6 : decode cX26_tell 6 = .ok (.iload_n 2, 1) := by decide +kernel
theorem dX26_tell_7 : decode cX26_tell 7 = .ok (.putfield 19, 3) := by decide +kernel
theorem dX26_tell_10 : decode cX26_tell 10 = .ok (.aload_n 0, 1) := by decide +kernel
theorem dX26_tell_11 : decode cX26_tell 11 = .ok (.iload_n 1, 1) := by decide +kernel
theorem dX26_tell_12 : decode cX26_tell 12 = .ok (.iload_n 2, 1) := by decide +kernel
theorem dX26_tell_13 : decode cX26_tell 13 = .ok (.imul, 1) := by decide +kernel
theorem dX26_tell_14 : decode cX26_tell 14 = .ok (.newarray .int, 2) := by decide +kernel
theorem dX26_tell_16 : decode cX26_tell 16 = .ok (.putfield 22, 3) := by decide +kernel
theorem dX26_tell_19 : decode cX26_tell 19 = .ok (.return_, 1) := by decide +kernel
def f_X26_tell (x0 x1 x2 : Int) (M : MM) : Option (MM) :=
  (pfi 26 4 x0 x1 M).bind fun M1 =>
  (pfi 26 5 x0 x2 M1).bind fun M2 =>
  (nar 528 (x1 * x2) M2).bind fun r1 =>
  (pfr 26 6 x0 r1.1 r1.2).bind fun M3 =>
  some M3
theorem s_X26_tell_0 {g : GG} {d : Nat} (hD : 0 ≤ d) {x0 x1 x2 : Int} {M : MM} {o : AV × MM} {P : (MM) → Prop} (r0 : ∀ r : MM, P r → o = ((9, 0), r)) {z : MM} (h : f_X26_tell x0 x1 x2 M = some z) (hz : P z) : Sem g d YX26_tell 0 [(1, x0), (0, x1), (0, x2)] [] M o := by
  delta f_X26_tell at h
  refine S_aload_n (i := 0) dX26_tell_0 rfl rfl ?_
  refine S_iload_n (i := 1) dX26_tell_1 rfl rfl ?_
  refine P_pfi FLX26_16 FPX26_16 rfl dX26_tell_2 h (fun M1 h => ?_)
  refine S_aload_n (i := 0) dX26_tell_5 rfl rfl ?_
  refine S_iload_n (i := 2) dX26_tell_6 rfl rfl ?_
  refine P_pfi FLX26_19 FPX26_19 rfl dX26_tell_7 h (fun M2 h => ?_)
  refine S_aload_n (i := 0) dX26_tell_10 rfl rfl ?_
  refine S_iload_n (i := 1) dX26_tell_11 rfl rfl ?_
  refine S_iload_n (i := 2) dX26_tell_12 rfl rfl ?_
  refine S_imul dX26_tell_13 ?_
  refine P_nar (k := 528) (t := 0) (at' := .int) (by decide) (by decide) rfl q248 dX26_tell_14 h (fun r1 h => ?_)
  refine P_pfr FLX26_22 FPX26_22 (Or.inr ⟨_, rfl⟩) rfl dX26_tell_16 h (fun M3 h => ?_)
  obtain rfl := r0 _ (some_P (P := fun r => P r) h hz)
  exact S_return dX26_tell_19 rfl
theorem F_X26_tell {g : GG} {d : Nat} (hD : 0 ≤ d) {x0 x1 x2 : Int} {M : MM} {r : MM} (h : f_X26_tell x0 x1 x2 M = some r) : Sem g d YX26_tell 0 (ini YX26_tell [(1, x0), (0, x1), (0, x2)]) [] M ((9, 0), r) := by
  change Sem g d YX26_tell 0 [(1, x0), (0, x1), (0, x2)] [] M ((9, 0), r)
  exact s_X26_tell_0 hD (P := fun x => x = r) (fun q e => by rw [e]) h rfl
/-! PeerSearch$Asking.finish(LPeerSearch$Work;)V -/
theorem dX31_finish_0 : decode cX31_finish 0 = .ok (.aload_n 0, 1) := by decide +kernel
theorem dX31_finish_1 : decode cX31_finish 1 = .ok (.getfield 48, 3) := by decide +kernel
theorem dX31_finish_4 : decode cX31_finish 4 = .ok (.invokevirtual 244, 3) := by decide +kernel
theorem dX31_finish_7 : decode cX31_finish 7 = .ok (.iconst 0, 1) := by decide +kernel
theorem dX31_finish_8 : decode cX31_finish 8 = .ok (.istore_n 2, 1) := by decide +kernel
theorem dX31_finish_9 : decode cX31_finish 9 = .ok (.iload_n 2, 1) := by decide +kernel
theorem dX31_finish_10 : decode cX31_finish 10 = .ok (.aload_n 0, 1) := by decide +kernel
theorem dX31_finish_11 : decode cX31_finish 11 = .ok (.getfield 79, 3) := by decide +kernel
theorem dX31_finish_14 : decode cX31_finish 14 = .ok (.if_icmp .ge 34, 3) := by decide +kernel
theorem dX31_finish_17 : decode cX31_finish 17 = .ok (.aload_n 0, 1) := by decide +kernel
theorem dX31_finish_18 : decode cX31_finish 18 = .ok (.getfield 48, 3) := by decide +kernel
theorem dX31_finish_21 : decode cX31_finish 21 = .ok (.aload_n 0, 1) := by decide +kernel
theorem dX31_finish_22 : decode cX31_finish 22 = .ok (.getfield 30, 3) := by decide +kernel
theorem dX31_finish_25 : decode cX31_finish 25 = .ok (.iload_n 2, 1) := by decide +kernel
theorem dX31_finish_26 : decode cX31_finish 26 = .ok (.iaload, 1) := by decide +kernel
theorem dX31_finish_27 : decode cX31_finish 27 = .ok (.aload_n 0, 1) := by decide +kernel
theorem dX31_finish_28 : decode cX31_finish 28 = .ok (.getfield 33, 3) := by decide +kernel
theorem dX31_finish_31 : decode cX31_finish 31 = .ok (.iload_n 2, 1) := by decide +kernel
theorem dX31_finish_32 : decode cX31_finish 32 = .ok (.iaload, 1) := by decide +kernel
theorem dX31_finish_33 : decode cX31_finish 33 = .ok (.aload_n 0, 1) := by decide +kernel
theorem dX31_finish_34 : decode cX31_finish 34 = .ok (.getfield 36, 3) := by decide +kernel
theorem dX31_finish_37 : decode cX31_finish 37 = .ok (.iload_n 2, 1) := by decide +kernel
theorem dX31_finish_38 : decode cX31_finish 38 = .ok (.iaload, 1) := by decide +kernel
theorem dX31_finish_39 : decode cX31_finish 39 = .ok (.invokevirtual 246, 3) := by decide +kernel
theorem dX31_finish_42 : decode cX31_finish 42 = .ok (.iinc 2 1, 3) := by decide +kernel
theorem dX31_finish_45 : decode cX31_finish 45 = .ok (.goto (-36), 3) := by decide +kernel
theorem dX31_finish_48 : decode cX31_finish 48 = .ok (.aload_n 1, 1) := by decide +kernel
theorem dX31_finish_49 : decode cX31_finish 49 = .ok (.getfield 250, 3) := by decide +kernel
theorem dX31_finish_52 : decode cX31_finish 52 = .ok (.aload_n 0, 1) := by decide +kernel
theorem dX31_finish_53 : decode cX31_finish 53 = .ok (.getfield 48, 3) := by decide +kernel
theorem dX31_finish_56 : decode cX31_finish 56 = .ok (.getfield 254, 3) := by decide +kernel
theorem dX31_finish_59 : decode cX31_finish 59 = .ok (.iconst 3, 1) := by decide +kernel
theorem dX31_finish_60 : decode cX31_finish 60 = .ok (.invokevirtual 255, 3) := by decide +kernel
theorem dX31_finish_63 : decode cX31_finish 63 = .ok (.iconst 0, 1) := by decide +kernel
theorem dX31_finish_64 : decode cX31_finish 64 = .ok (.istore_n 2, 1) := by decide +kernel
theorem dX31_finish_65 : decode cX31_finish 65 = .ok (.iload_n 2, 1) := by decide +kernel
theorem dX31_finish_66 : decode cX31_finish 66 = .ok (.aload_n 0, 1) := by decide +kernel
theorem dX31_finish_67 : decode cX31_finish 67 = .ok (.getfield 48, 3) := by decide +kernel
theorem dX31_finish_70 : decode cX31_finish 70 = .ok (.getfield 254, 3) := by decide +kernel
theorem dX31_finish_73 : decode cX31_finish 73 = .ok (.if_icmp .ge 44, 3) := by decide +kernel
theorem dX31_finish_76 : decode cX31_finish 76 = .ok (.iconst 0, 1) := by decide +kernel
theorem dX31_finish_77 : decode cX31_finish 77 = .ok (.istore_n 3, 1) := by decide +kernel
theorem dX31_finish_78 : decode cX31_finish 78 = .ok (.iload_n 3, 1) := by decide +kernel
theorem dX31_finish_79 : decode cX31_finish 79 = .ok (.iconst 3, 1) := by decide +kernel
theorem dX31_finish_80 : decode cX31_finish 80 = .ok (.if_icmp .ge 31, 3) := by decide +kernel
theorem dX31_finish_83 : decode cX31_finish 83 = .ok (.aload_n 1, 1) := by decide +kernel
theorem dX31_finish_84 : decode cX31_finish 84 = .ok (.getfield 250, 3) := by decide +kernel
theorem dX31_finish_87 : decode cX31_finish 87 = .ok (.getfield 260, 3) := by decide +kernel
theorem dX31_finish_90 : decode cX31_finish 90 = .ok (.iconst 3, 1) := by decide +kernel
theorem dX31_finish_91 : decode cX31_finish 91 = .ok (.iload_n 2, 1) := by decide +kernel
theorem dX31_finish_92 : decode cX31_finish 92 = .ok (.imul, 1) := by decide +kernel
theorem dX31_finish_93 : decode cX31_finish 93 = .ok (.iload_n 3, 1) := by decide +kernel
theorem dX31_finish_94 : decode cX31_finish 94 = .ok (.iadd, 1) := by decide +kernel
theorem dX31_finish_95 : decode cX31_finish 95 = .ok (.aload_n 0, 1) := by decide +kernel
theorem dX31_finish_96 : decode cX31_finish 96 = .ok (.getfield 48, 3) := by decide +kernel
theorem dX31_finish_99 : decode cX31_finish 99 = .ok (.iload_n 2, 1) := by decide +kernel
theorem dX31_finish_100 : decode cX31_finish 100 = .ok (.iload_n 3, 1) := by decide +kernel
theorem dX31_finish_101 : decode cX31_finish 101 = .ok (.invokevirtual 263, 3) := by decide +kernel
theorem dX31_finish_104 : decode cX31_finish 104 = .ok (.iastore, 1) := by decide +kernel
theorem dX31_finish_105 : decode cX31_finish 105 = .ok (.iinc 3 1, 3) := by decide +kernel
theorem dX31_finish_108 : decode cX31_finish 108 = .ok (.goto (-30), 3) := by decide +kernel
theorem dX31_finish_111 : decode cX31_finish 111 = .ok (.iinc 2 1, 3) := by decide +kernel
theorem dX31_finish_114 : decode cX31_finish 114 = .ok (.goto (-49), 3) := by decide +kernel
theorem dX31_finish_117 : decode cX31_finish 117 = .ok (.aload_n 1, 1) := by decide +kernel
theorem dX31_finish_118 : decode cX31_finish 118 = .ok (.iconst 1, 1) := by decide +kernel
theorem dX31_finish_119 : decode cX31_finish 119 = .ok (.invokevirtual 266, 3) := by decide +kernel
theorem dX31_finish_122 : decode cX31_finish 122 = .ok (.return_, 1) := by decide +kernel
def j_X31_finish_111 (x0 x1 x2 : Int) (M : MM) : Option ((Int × MM) ⊕ (MM)) :=
  cnt (x2 + 1, M)
def b_X31_finish_78 (x0 x1 x2 x3 : Int) (M : MM) : Option ((Int × MM) ⊕ ((Int × MM) ⊕ (MM))) :=
  if w32 x3 < w32 3 then
    (gfr 11 4 x1 M).bind fun v1 =>
    (gfr 26 6 v1 M).bind fun v2 =>
    (gfr 31 17 x0 M).bind fun v3 =>
    ck 5 v3 M <| (f_X5_told v3 x2 x3 M).bind fun v4 =>
    (sai v2 ((3 * x2) + x3) v4 M).bind fun M1 =>
    cnt (x3 + 1, M1)
  else
    xit (j_X31_finish_111 x0 x1 x2 M)
def l_X31_finish_78 (x0 x1 x2 x3 : Int) (M : MM) : Option ((Int × MM) ⊕ (MM)) := lpN (fun s : Int × MM => b_X31_finish_78 x0 x1 x2 s.1 s.2) FU (x3, M)
def b_X31_finish_65 (x0 x1 x2 : Int) (M : MM) : Option ((Int × MM) ⊕ (MM)) :=
  (gfr 31 17 x0 M).bind fun v1 =>
  (gfi 5 3 v1 M).bind fun v2 =>
  if w32 x2 < w32 v2 then
    l_X31_finish_78 x0 x1 x2 0 M
  else
    xit (ck 11 x1 M <| (f_X11_end x1 1 M).bind fun M1 => some M1)
def l_X31_finish_65 (x0 x1 x2 : Int) (M : MM) : Option (MM) := lpN (fun s : Int × MM => b_X31_finish_65 x0 x1 s.1 s.2) FU (x2, M)
def j_X31_finish_48 (x0 x1 : Int) (M : MM) : Option (MM) :=
  (gfr 11 4 x1 M).bind fun v1 =>
  (gfr 31 17 x0 M).bind fun v2 =>
  (gfi 5 3 v2 M).bind fun v3 =>
  ck 26 v1 M <| (f_X26_tell v1 v3 3 M).bind fun M1 =>
  l_X31_finish_65 x0 x1 0 M1
def b_X31_finish_9 (x0 x1 x2 : Int) (M : MM) : Option ((Int × MM) ⊕ (MM)) :=
  (gfi 31 13 x0 M).bind fun v1 =>
  if w32 x2 < w32 v1 then
    (gfr 31 17 x0 M).bind fun v2 =>
    (gfr 31 9 x0 M).bind fun v3 =>
    (lai v3 x2 M).bind fun v4 =>
    (gfr 31 10 x0 M).bind fun v5 =>
    (lai v5 x2 M).bind fun v6 =>
    (gfr 31 11 x0 M).bind fun v7 =>
    (lai v7 x2 M).bind fun v8 =>
    ck 5 v2 M <| (f_X5_add v2 v4 v6 v8 M).bind fun M1 =>
    cnt (x2 + 1, M1)
  else
    xit (j_X31_finish_48 x0 x1 M)
def l_X31_finish_9 (x0 x1 x2 : Int) (M : MM) : Option (MM) := lpN (fun s : Int × MM => b_X31_finish_9 x0 x1 s.1 s.2) FU (x2, M)
def f_X31_finish (x0 x1 : Int) (M : MM) : Option (MM) :=
  (gfr 31 17 x0 M).bind fun v1 =>
  ck 5 v1 M <| (f_X5_begin v1 M).bind fun M1 =>
  l_X31_finish_9 x0 x1 0 M1
theorem s_X31_finish_111 {g : GG} {d : Nat} (hD : 2 ≤ d) {x0 x1 x2 : Int} {M : MM} {o : AV × MM} {P : ((Int × MM) ⊕ (MM)) → Prop} (c0 : ∀ s : Int × MM, P (.inl s) → Sem g d YX31_finish 65 [(1, x0), (1, x1), (0, s.1), (9, 0)] [] s.2 o) (r0 : ∀ r : MM, P (.inr r) → o = ((9, 0), r)) {z : (Int × MM) ⊕ (MM)} (h : j_X31_finish_111 x0 x1 x2 M = some z) (hz : P z) : Sem g d YX31_finish 111 [(1, x0), (1, x1), (0, x2), (9, 0)] [] M o := by
  delta j_X31_finish_111 at h
  refine S_iinc dX31_finish_111 rfl rfl rfl ?_
  change Sem g d YX31_finish 114 [(1, x0), (1, x1), (0, x2 + 1), (9, 0)] [] M o
  refine S_goto (tgt := 65) dX31_finish_114 rfl ?_
  exact c0 (x2 + 1, M) (some_P (P := fun r => P r) h hz)
theorem s_X31_finish_78 {g : GG} {d : Nat} (hD : 2 ≤ d) {x0 x1 x2 x3 : Int} {M : MM} {o : AV × MM} {P : ((Int × MM) ⊕ ((Int × MM) ⊕ (MM))) → Prop} (c1 : ∀ s : Int × MM, P (.inl s) → Sem g d YX31_finish 78 [(1, x0), (1, x1), (0, x2), (0, s.1)] [] s.2 o) (c0 : ∀ s : Int × MM, P (.inr (.inl s)) → Sem g d YX31_finish 65 [(1, x0), (1, x1), (0, s.1), (9, 0)] [] s.2 o) (r0 : ∀ r : MM, P (.inr (.inr r)) → o = ((9, 0), r)) {z : (Int × MM) ⊕ ((Int × MM) ⊕ (MM))} (h : b_X31_finish_78 x0 x1 x2 x3 M = some z) (hz : P z) : Sem g d YX31_finish 78 [(1, x0), (1, x1), (0, x2), (0, x3)] [] M o := by
  delta b_X31_finish_78 at h
  refine S_iload_n (i := 3) dX31_finish_78 rfl rfl ?_
  refine S_iconst dX31_finish_79 rfl ?_
  refine P_icmp_ge (tgt := 111) dX31_finish_80 rfl h (fun h => ?_) (fun h => ?_)
  · refine S_weak (ls' := [(1, x0), (1, x1), (0, x2), (9, 0)]) ⟨Or.inr rfl, ⟨Or.inr rfl, ⟨Or.inr rfl, ⟨Or.inl rfl, trivial⟩⟩⟩⟩ ?_
    obtain ⟨z0, h, hz⟩ := xit_some' (P := fun r => P r) h hz
    exact s_X31_finish_111 hD (P := fun r => P (.inr r)) c0 r0 h hz
  · refine S_aload_n (i := 1) dX31_finish_83 rfl rfl ?_
    refine P_gfr FLX31_250 rfl dX31_finish_84 h (fun v1 h => ?_)
    refine P_gfr FLX31_260 rfl dX31_finish_87 h (fun v2 h => ?_)
    refine S_iconst dX31_finish_90 rfl ?_
    refine S_iload_n (i := 2) dX31_finish_91 rfl rfl ?_
    refine S_imul dX31_finish_92 ?_
    refine S_iload_n (i := 3) dX31_finish_93 rfl rfl ?_
    refine S_iadd dX31_finish_94 ?_
    refine S_aload_n (i := 0) dX31_finish_95 rfl rfl ?_
    refine P_gfr FLX31_48 rfl dX31_finish_96 h (fun v3 h => ?_)
    refine S_iload_n (i := 2) dX31_finish_99 rfl rfl ?_
    refine S_iload_n (i := 3) dX31_finish_100 rfl rfl ?_
    refine P_invVp 0 [(0, x2), (0, x3)] [(0, (3 * x2) + x3), (1, v2)] CVX5_told MLX31_263 dX31_finish_101 rfl rfl rfl rfl rfl (by omega) h (fun r h => F_X5_told (by omega) h) (fun v4 h => ?_)
    refine P_sai dX31_finish_104 h (fun M1 h => ?_)
    refine S_iinc dX31_finish_105 rfl rfl rfl ?_
    change Sem g d YX31_finish 108 [(1, x0), (1, x1), (0, x2), (0, x3 + 1)] [] M1 o
    refine S_goto (tgt := 78) dX31_finish_108 rfl ?_
    exact c1 (x3 + 1, M1) (some_P (P := fun r => P r) h hz)
theorem sl_X31_finish_78 {g : GG} {d : Nat} (hD : 2 ≤ d) {x0 x1 x2 x3 : Int} {M : MM} {o : AV × MM} {P : ((Int × MM) ⊕ (MM)) → Prop} (c0 : ∀ s : Int × MM, P (.inl s) → Sem g d YX31_finish 65 [(1, x0), (1, x1), (0, s.1), (9, 0)] [] s.2 o) (r0 : ∀ r : MM, P (.inr r) → o = ((9, 0), r)) {z : (Int × MM) ⊕ (MM)} (h : l_X31_finish_78 x0 x1 x2 x3 M = some z) (hz : P z) : Sem g d YX31_finish 78 [(1, x0), (1, x1), (0, x2), (0, x3)] [] M o := by
  refine lp_sound (S := fun s : Int × MM => Sem g d YX31_finish 78 [(1, x0), (1, x1), (0, x2), (0, s.1)] [] s.2 o) (P := P) ?_ FU (x3, M) z h hz
  intro s x hx hP
  exact s_X31_finish_78 hD (P := Sum.elim (fun s : Int × MM => Sem g d YX31_finish 78 [(1, x0), (1, x1), (0, x2), (0, s.1)] [] s.2 o) P) (fun s h => h) (fun s h => c0 s h) (fun s h => r0 s h) hx hP
theorem s_X31_finish_65 {g : GG} {d : Nat} (hD : 2 ≤ d) {x0 x1 x2 : Int} {M : MM} {o : AV × MM} {P : ((Int × MM) ⊕ (MM)) → Prop} (c0 : ∀ s : Int × MM, P (.inl s) → Sem g d YX31_finish 65 [(1, x0), (1, x1), (0, s.1), (9, 0)] [] s.2 o) (r0 : ∀ r : MM, P (.inr r) → o = ((9, 0), r)) {z : (Int × MM) ⊕ (MM)} (h : b_X31_finish_65 x0 x1 x2 M = some z) (hz : P z) : Sem g d YX31_finish 65 [(1, x0), (1, x1), (0, x2), (9, 0)] [] M o := by
  delta b_X31_finish_65 at h
  refine S_iload_n (i := 2) dX31_finish_65 rfl rfl ?_
  refine S_aload_n (i := 0) dX31_finish_66 rfl rfl ?_
  refine P_gfr FLX31_48 rfl dX31_finish_67 h (fun v1 h => ?_)
  refine P_gfi FLX31_254 rfl dX31_finish_70 h (fun v2 h => ?_)
  refine P_icmp_ge (tgt := 117) dX31_finish_73 rfl h (fun h => ?_) (fun h => ?_)
  · obtain ⟨z0, h, hz⟩ := xit_some' (P := fun r => P r) h hz
    refine S_aload_n (i := 1) dX31_finish_117 rfl rfl ?_
    refine S_iconst dX31_finish_118 rfl ?_
    refine P_invVm' [(0, 1)] [] CVX11_end MLX31_266 dX31_finish_119 rfl rfl rfl rfl (by omega) h (fun r h => F_X11_end (by omega) h) (fun M1 h => ?_)
    obtain rfl := r0 _ (some_P (P := fun r => P (.inr r)) h hz)
    exact S_return dX31_finish_122 rfl
  · refine S_iconst dX31_finish_76 rfl ?_
    refine S_istore_n (i := 3) dX31_finish_77 rfl (Nat.le_of_ble_eq_true rfl) rfl rfl ?_
    change Sem g d YX31_finish 78 [(1, x0), (1, x1), (0, x2), (0, 0)] [] M o
    exact sl_X31_finish_78 hD c0 r0 h hz
theorem sl_X31_finish_65 {g : GG} {d : Nat} (hD : 2 ≤ d) {x0 x1 x2 : Int} {M : MM} {o : AV × MM} {P : (MM) → Prop} (r0 : ∀ r : MM, P r → o = ((9, 0), r)) {z : MM} (h : l_X31_finish_65 x0 x1 x2 M = some z) (hz : P z) : Sem g d YX31_finish 65 [(1, x0), (1, x1), (0, x2), (9, 0)] [] M o := by
  refine lp_sound (S := fun s : Int × MM => Sem g d YX31_finish 65 [(1, x0), (1, x1), (0, s.1), (9, 0)] [] s.2 o) (P := P) ?_ FU (x2, M) z h hz
  intro s x hx hP
  exact s_X31_finish_65 hD (P := Sum.elim (fun s : Int × MM => Sem g d YX31_finish 65 [(1, x0), (1, x1), (0, s.1), (9, 0)] [] s.2 o) P) (fun s h => h) (fun s h => r0 s h) hx hP
theorem s_X31_finish_48 {g : GG} {d : Nat} (hD : 2 ≤ d) {x0 x1 : Int} {M : MM} {o : AV × MM} {P : (MM) → Prop} (r0 : ∀ r : MM, P r → o = ((9, 0), r)) {z : MM} (h : j_X31_finish_48 x0 x1 M = some z) (hz : P z) : Sem g d YX31_finish 48 [(1, x0), (1, x1), (9, 0), (9, 0)] [] M o := by
  delta j_X31_finish_48 at h
  refine S_aload_n (i := 1) dX31_finish_48 rfl rfl ?_
  refine P_gfr FLX31_250 rfl dX31_finish_49 h (fun v1 h => ?_)
  refine S_aload_n (i := 0) dX31_finish_52 rfl rfl ?_
  refine P_gfr FLX31_48 rfl dX31_finish_53 h (fun v2 h => ?_)
  refine P_gfi FLX31_254 rfl dX31_finish_56 h (fun v3 h => ?_)
  refine S_iconst dX31_finish_59 rfl ?_
  refine P_invVm' [(0, v3), (0, 3)] [] CVX26_tell MLX31_255 dX31_finish_60 rfl rfl rfl rfl (by omega) h (fun r h => F_X26_tell (by omega) h) (fun M1 h => ?_)
  refine S_iconst dX31_finish_63 rfl ?_
  refine S_istore_n (i := 2) dX31_finish_64 rfl (Nat.le_of_ble_eq_true rfl) rfl rfl ?_
  change Sem g d YX31_finish 65 [(1, x0), (1, x1), (0, 0), (9, 0)] [] M1 o
  exact sl_X31_finish_65 hD r0 h hz
theorem s_X31_finish_9 {g : GG} {d : Nat} (hD : 2 ≤ d) {x0 x1 x2 : Int} {M : MM} {o : AV × MM} {P : ((Int × MM) ⊕ (MM)) → Prop} (c0 : ∀ s : Int × MM, P (.inl s) → Sem g d YX31_finish 9 [(1, x0), (1, x1), (0, s.1), (9, 0)] [] s.2 o) (r0 : ∀ r : MM, P (.inr r) → o = ((9, 0), r)) {z : (Int × MM) ⊕ (MM)} (h : b_X31_finish_9 x0 x1 x2 M = some z) (hz : P z) : Sem g d YX31_finish 9 [(1, x0), (1, x1), (0, x2), (9, 0)] [] M o := by
  delta b_X31_finish_9 at h
  refine S_iload_n (i := 2) dX31_finish_9 rfl rfl ?_
  refine S_aload_n (i := 0) dX31_finish_10 rfl rfl ?_
  refine P_gfi FLX31_79 rfl dX31_finish_11 h (fun v1 h => ?_)
  refine P_icmp_ge (tgt := 48) dX31_finish_14 rfl h (fun h => ?_) (fun h => ?_)
  · refine S_weak (ls' := [(1, x0), (1, x1), (9, 0), (9, 0)]) ⟨Or.inr rfl, ⟨Or.inr rfl, ⟨Or.inl rfl, ⟨Or.inl rfl, trivial⟩⟩⟩⟩ ?_
    obtain ⟨z0, h, hz⟩ := xit_some' (P := fun r => P r) h hz
    exact s_X31_finish_48 hD (P := fun r => P (.inr r)) r0 h hz
  · refine S_aload_n (i := 0) dX31_finish_17 rfl rfl ?_
    refine P_gfr FLX31_48 rfl dX31_finish_18 h (fun v2 h => ?_)
    refine S_aload_n (i := 0) dX31_finish_21 rfl rfl ?_
    refine P_gfr FLX31_30 rfl dX31_finish_22 h (fun v3 h => ?_)
    refine S_iload_n (i := 2) dX31_finish_25 rfl rfl ?_
    refine P_lai dX31_finish_26 h (fun v4 h => ?_)
    refine S_aload_n (i := 0) dX31_finish_27 rfl rfl ?_
    refine P_gfr FLX31_33 rfl dX31_finish_28 h (fun v5 h => ?_)
    refine S_iload_n (i := 2) dX31_finish_31 rfl rfl ?_
    refine P_lai dX31_finish_32 h (fun v6 h => ?_)
    refine S_aload_n (i := 0) dX31_finish_33 rfl rfl ?_
    refine P_gfr FLX31_36 rfl dX31_finish_34 h (fun v7 h => ?_)
    refine S_iload_n (i := 2) dX31_finish_37 rfl rfl ?_
    refine P_lai dX31_finish_38 h (fun v8 h => ?_)
    refine P_invVm' [(0, v4), (0, v6), (0, v8)] [] CVX5_add MLX31_246 dX31_finish_39 rfl rfl rfl rfl (by omega) h (fun r h => F_X5_add (by omega) h) (fun M1 h => ?_)
    refine S_iinc dX31_finish_42 rfl rfl rfl ?_
    change Sem g d YX31_finish 45 [(1, x0), (1, x1), (0, x2 + 1), (9, 0)] [] M1 o
    refine S_goto (tgt := 9) dX31_finish_45 rfl ?_
    exact c0 (x2 + 1, M1) (some_P (P := fun r => P r) h hz)
theorem sl_X31_finish_9 {g : GG} {d : Nat} (hD : 2 ≤ d) {x0 x1 x2 : Int} {M : MM} {o : AV × MM} {P : (MM) → Prop} (r0 : ∀ r : MM, P r → o = ((9, 0), r)) {z : MM} (h : l_X31_finish_9 x0 x1 x2 M = some z) (hz : P z) : Sem g d YX31_finish 9 [(1, x0), (1, x1), (0, x2), (9, 0)] [] M o := by
  refine lp_sound (S := fun s : Int × MM => Sem g d YX31_finish 9 [(1, x0), (1, x1), (0, s.1), (9, 0)] [] s.2 o) (P := P) ?_ FU (x2, M) z h hz
  intro s x hx hP
  exact s_X31_finish_9 hD (P := Sum.elim (fun s : Int × MM => Sem g d YX31_finish 9 [(1, x0), (1, x1), (0, s.1), (9, 0)] [] s.2 o) P) (fun s h => h) (fun s h => r0 s h) hx hP
theorem s_X31_finish_0 {g : GG} {d : Nat} (hD : 2 ≤ d) {x0 x1 : Int} {M : MM} {o : AV × MM} {P : (MM) → Prop} (r0 : ∀ r : MM, P r → o = ((9, 0), r)) {z : MM} (h : f_X31_finish x0 x1 M = some z) (hz : P z) : Sem g d YX31_finish 0 [(1, x0), (1, x1), (9, 0), (9, 0)] [] M o := by
  delta f_X31_finish at h
  refine S_aload_n (i := 0) dX31_finish_0 rfl rfl ?_
  refine P_gfr FLX31_48 rfl dX31_finish_1 h (fun v1 h => ?_)
  refine P_invVm' [] [] CVX5_begin MLX31_244 dX31_finish_4 rfl rfl rfl rfl (by omega) h (fun r h => F_X5_begin (by omega) h) (fun M1 h => ?_)
  refine S_iconst dX31_finish_7 rfl ?_
  refine S_istore_n (i := 2) dX31_finish_8 rfl (Nat.le_of_ble_eq_true rfl) rfl rfl ?_
  change Sem g d YX31_finish 9 [(1, x0), (1, x1), (0, 0), (9, 0)] [] M1 o
  exact sl_X31_finish_9 hD r0 h hz
theorem F_X31_finish {g : GG} {d : Nat} (hD : 2 ≤ d) {x0 x1 : Int} {M : MM} {r : MM} (h : f_X31_finish x0 x1 M = some r) : Sem g d YX31_finish 0 (ini YX31_finish [(1, x0), (1, x1)]) [] M ((9, 0), r) := by
  change Sem g d YX31_finish 0 [(1, x0), (1, x1), (9, 0), (9, 0)] [] M ((9, 0), r)
  exact s_X31_finish_0 hD (P := fun x => x = r) (fun q e => by rw [e]) h rfl
/-! PeerSearch$Asking.place(IIII)I -/
theorem dX31_place_0 : decode cX31_place 0 = .ok (.iload_n 3, 1) := by decide +kernel
theorem dX31_place_1 : decode cX31_place 1 = .ok (.istore 5, 2) := by decide +kernel
theorem dX31_place_3 : decode cX31_place 3 = .ok (.iload 5, 2) := by decide +kernel
theorem dX31_place_5 : decode cX31_place 5 = .ok (.iload 4, 2) := by decide +kernel
theorem dX31_place_7 : decode cX31_place 7 = .ok (.if_icmp .ge 34, 3) := by decide +kernel
theorem dX31_place_10 : decode cX31_place 10 = .ok (.aload_n 0, 1) := by decide +kernel
theorem dX31_place_11 : decode cX31_place 11 = .ok (.getfield 30, 3) := by decide +kernel
theorem dX31_place_14 : decode cX31_place 14 = .ok (.iload 5, 2) := by decide +kernel
theorem dX31_place_16 : decode cX31_place 16 = .ok (.iaload, 1) := by decide +kernel
theorem dX31_place_17 : decode cX31_place 17 = .ok (.iload_n 1, 1) := by decide +kernel
theorem dX31_place_18 : decode cX31_place 18 = .ok (.if_icmp .ne 17, 3) := by decide +kernel
theorem dX31_place_21 : decode cX31_place 21 = .ok (.aload_n 0, 1) := by decide +kernel
theorem dX31_place_22 : decode cX31_place 22 = .ok (.getfield 33, 3) := by decide +kernel
theorem dX31_place_25 : decode cX31_place 25 = .ok (.iload 5, 2) := by decide +kernel
theorem dX31_place_27 : decode cX31_place 27 = .ok (.iaload, 1) := by decide +kernel
theorem dX31_place_28 : decode cX31_place 28 = .ok (.iload_n 2, 1) := by decide +kernel
theorem dX31_place_29 : decode cX31_place 29 = .ok (.if_icmp .ne 6, 3) := by decide +kernel
theorem dX31_place_32 : decode cX31_place 32 = .ok (.iload 5, 2) := by decide +kernel
theorem dX31_place_34 : decode cX31_place 34 = .ok (.ireturn, 1) := by decide +kernel
theorem dX31_place_35 : decode cX31_place 35 = .ok (.iinc 5 1, 3) := by decide +kernel
theorem dX31_place_38 : decode cX31_place 38 = .ok (.goto (-35), 3) := by decide +kernel
theorem dX31_place_41 : decode cX31_place 41 = .ok (.iconst (-1), 1) := by decide +kernel
theorem dX31_place_42 : decode cX31_place 42 = .ok (.ireturn, 1) := by decide +kernel
def j_X31_place_35 (x0 x1 x2 x4 x5 : Int) (M : MM) : Option ((Int) ⊕ (Int)) :=
  cnt (x5 + 1)
def b_X31_place_3 (x0 x1 x2 x4 x5 : Int) (M : MM) : Option ((Int) ⊕ (Int)) :=
  if w32 x5 < w32 x4 then
    (gfr 31 9 x0 M).bind fun v1 =>
    (lai v1 x5 M).bind fun v2 =>
    if w32 v2 = w32 x1 then
      (gfr 31 10 x0 M).bind fun v3 =>
      (lai v3 x5 M).bind fun v4 =>
      if w32 v4 = w32 x2 then
        xit (some x5)
      else
        j_X31_place_35 x0 x1 x2 x4 x5 M
    else
      j_X31_place_35 x0 x1 x2 x4 x5 M
  else
    xit (some (-1))
def l_X31_place_3 (x0 x1 x2 x4 x5 : Int) (M : MM) : Option (Int) := lpN (fun s : Int => b_X31_place_3 x0 x1 x2 x4 s M) FU x5
def f_X31_place (x0 x1 x2 x3 x4 : Int) (M : MM) : Option (Int) :=
  l_X31_place_3 x0 x1 x2 x4 x3 M
theorem s_X31_place_35 {g : GG} {d : Nat} (hD : 0 ≤ d) {x0 x1 x2 x4 x5 : Int} {M : MM} {o : AV × MM} {P : ((Int) ⊕ (Int)) → Prop} (c0 : ∀ s : Int, P (.inl s) → Sem g d YX31_place 3 [(1, x0), (0, x1), (0, x2), (9, 0), (0, x4), (0, s)] [] M o) (r0 : ∀ r : Int, P (.inr r) → o = ((0, r), M)) {z : (Int) ⊕ (Int)} (h : j_X31_place_35 x0 x1 x2 x4 x5 M = some z) (hz : P z) : Sem g d YX31_place 35 [(1, x0), (0, x1), (0, x2), (9, 0), (0, x4), (0, x5)] [] M o := by
  delta j_X31_place_35 at h
  refine S_iinc dX31_place_35 rfl rfl rfl ?_
  change Sem g d YX31_place 38 [(1, x0), (0, x1), (0, x2), (9, 0), (0, x4), (0, x5 + 1)] [] M o
  refine S_goto (tgt := 3) dX31_place_38 rfl ?_
  exact c0 (x5 + 1) (some_P (P := fun r => P r) h hz)
theorem s_X31_place_3 {g : GG} {d : Nat} (hD : 0 ≤ d) {x0 x1 x2 x4 x5 : Int} {M : MM} {o : AV × MM} {P : ((Int) ⊕ (Int)) → Prop} (c0 : ∀ s : Int, P (.inl s) → Sem g d YX31_place 3 [(1, x0), (0, x1), (0, x2), (9, 0), (0, x4), (0, s)] [] M o) (r0 : ∀ r : Int, P (.inr r) → o = ((0, r), M)) {z : (Int) ⊕ (Int)} (h : b_X31_place_3 x0 x1 x2 x4 x5 M = some z) (hz : P z) : Sem g d YX31_place 3 [(1, x0), (0, x1), (0, x2), (9, 0), (0, x4), (0, x5)] [] M o := by
  delta b_X31_place_3 at h
  refine S_iload dX31_place_3 rfl ?_
  refine S_iload dX31_place_5 rfl ?_
  refine P_icmp_ge (tgt := 41) dX31_place_7 rfl h (fun h => ?_) (fun h => ?_)
  · obtain ⟨z0, h, hz⟩ := xit_some' (P := fun r => P r) h hz
    refine S_iconst dX31_place_41 rfl ?_
    obtain rfl := r0 _ (some_P (P := fun r => P (.inr r)) h hz)
    exact P_ret dX31_place_42 rfl (Or.inl rfl)
  · refine S_aload_n (i := 0) dX31_place_10 rfl rfl ?_
    refine P_gfr FLX31_30 rfl dX31_place_11 h (fun v1 h => ?_)
    refine S_iload dX31_place_14 rfl ?_
    refine P_lai dX31_place_16 h (fun v2 h => ?_)
    refine S_iload_n (i := 1) dX31_place_17 rfl rfl ?_
    refine P_icmp_ne (tgt := 35) dX31_place_18 rfl h (fun h => ?_) (fun h => ?_)
    · exact s_X31_place_35 hD c0 r0 h hz
    · refine S_aload_n (i := 0) dX31_place_21 rfl rfl ?_
      refine P_gfr FLX31_33 rfl dX31_place_22 h (fun v3 h => ?_)
      refine S_iload dX31_place_25 rfl ?_
      refine P_lai dX31_place_27 h (fun v4 h => ?_)
      refine S_iload_n (i := 2) dX31_place_28 rfl rfl ?_
      refine P_icmp_ne (tgt := 35) dX31_place_29 rfl h (fun h => ?_) (fun h => ?_)
      · exact s_X31_place_35 hD c0 r0 h hz
      · obtain ⟨z0, h, hz⟩ := xit_some' (P := fun r => P r) h hz
        refine S_iload dX31_place_32 rfl ?_
        obtain rfl := r0 _ (some_P (P := fun r => P (.inr r)) h hz)
        exact P_ret dX31_place_34 rfl (Or.inl rfl)
theorem sl_X31_place_3 {g : GG} {d : Nat} (hD : 0 ≤ d) {x0 x1 x2 x4 x5 : Int} {M : MM} {o : AV × MM} {P : (Int) → Prop} (r0 : ∀ r : Int, P r → o = ((0, r), M)) {z : Int} (h : l_X31_place_3 x0 x1 x2 x4 x5 M = some z) (hz : P z) : Sem g d YX31_place 3 [(1, x0), (0, x1), (0, x2), (9, 0), (0, x4), (0, x5)] [] M o := by
  refine lp_sound (S := fun s : Int => Sem g d YX31_place 3 [(1, x0), (0, x1), (0, x2), (9, 0), (0, x4), (0, s)] [] M o) (P := P) ?_ FU x5 z h hz
  intro s x hx hP
  exact s_X31_place_3 hD (P := Sum.elim (fun s : Int => Sem g d YX31_place 3 [(1, x0), (0, x1), (0, x2), (9, 0), (0, x4), (0, s)] [] M o) P) (fun s h => h) (fun s h => r0 s h) hx hP
theorem s_X31_place_0 {g : GG} {d : Nat} (hD : 0 ≤ d) {x0 x1 x2 x3 x4 : Int} {M : MM} {o : AV × MM} {P : (Int) → Prop} (r0 : ∀ r : Int, P r → o = ((0, r), M)) {z : Int} (h : f_X31_place x0 x1 x2 x3 x4 M = some z) (hz : P z) : Sem g d YX31_place 0 [(1, x0), (0, x1), (0, x2), (0, x3), (0, x4), (9, 0)] [] M o := by
  delta f_X31_place at h
  refine S_iload_n (i := 3) dX31_place_0 rfl rfl ?_
  refine S_istore dX31_place_1 (Nat.le_of_ble_eq_true rfl) rfl rfl ?_
  change Sem g d YX31_place 3 [(1, x0), (0, x1), (0, x2), (0, x3), (0, x4), (0, x3)] [] M o
  refine S_weak (ls' := [(1, x0), (0, x1), (0, x2), (9, 0), (0, x4), (0, x3)]) ⟨Or.inr rfl, ⟨Or.inr rfl, ⟨Or.inr rfl, ⟨Or.inl rfl, ⟨Or.inr rfl, ⟨Or.inr rfl, trivial⟩⟩⟩⟩⟩⟩ ?_
  exact sl_X31_place_3 hD r0 h hz
theorem F_X31_place {g : GG} {d : Nat} (hD : 0 ≤ d) {x0 x1 x2 x3 x4 : Int} {M : MM} {r : Int} (h : f_X31_place x0 x1 x2 x3 x4 M = some r) : Sem g d YX31_place 0 (ini YX31_place [(1, x0), (0, x1), (0, x2), (0, x3), (0, x4)]) [] M ((0, r), M) := by
  change Sem g d YX31_place 0 [(1, x0), (0, x1), (0, x2), (0, x3), (0, x4), (9, 0)] [] M ((0, r), M)
  exact s_X31_place_0 hD (P := fun x => x = r) (fun q e => by rw [e]) h rfl
/-! PeerSearch$Asking.sift()V -/
theorem dX31_sift_0 : decode cX31_sift 0 = .ok (.iconst 0, 1) := by decide +kernel
theorem dX31_sift_1 : decode cX31_sift 1 = .ok (.istore_n 1, 1) := by decide +kernel
theorem dX31_sift_2 : decode cX31_sift 2 = .ok (.iconst 0, 1) := by decide +kernel
theorem dX31_sift_3 : decode cX31_sift 3 = .ok (.istore_n 2, 1) := by decide +kernel
theorem dX31_sift_4 : decode cX31_sift 4 = .ok (.iload_n 2, 1) := by decide +kernel
theorem dX31_sift_5 : decode cX31_sift 5 = .ok (.aload_n 0, 1) := by decide +kernel
theorem dX31_sift_6 : decode cX31_sift 6 = .ok (.getfield 79, 3) := by decide +kernel
theorem dX31_sift_9 : decode cX31_sift 9 = .ok (.if_icmp .ge 60, 3) := by decide +kernel
theorem dX31_sift_12 : decode cX31_sift 12 = .ok (.aload_n 0, 1) := by decide +kernel
theorem dX31_sift_13 : decode cX31_sift 13 = .ok (.getfield 39, 3) := by decide +kernel
theorem dX31_sift_16 : decode cX31_sift 16 = .ok (.iload_n 2, 1) := by decide +kernel
theorem dX31_sift_17 : decode cX31_sift 17 = .ok (.baload, 1) := by decide +kernel
theorem dX31_sift_18 : decode cX31_sift 18 = .ok (.ifCond .ne 6, 3) := by decide +kernel
theorem dX31_sift_21 : decode cX31_sift 21 = .ok (.goto 42, 3) := by decide +kernel
theorem dX31_sift_24 : decode cX31_sift 24 = .ok (.aload_n 0, 1) := by decide +kernel
theorem dX31_sift_25 : decode cX31_sift 25 = .ok (.getfield 30, 3) := by decide +kernel
theorem dX31_sift_28 : decode cX31_sift 28 = .ok (.iload_n 1, 1) := by decide +kernel
theorem dX31_sift_29 : decode cX31_sift 29 = .ok (.aload_n 0, 1) := by decide +kernel
theorem dX31_sift_30 : decode cX31_sift 30 = .ok (.getfield 30, 3) := by decide +kernel
theorem dX31_sift_33 : decode cX31_sift 33 = .ok (.iload_n 2, 1) := by decide +kernel
theorem dX31_sift_34 : decode cX31_sift 34 = .ok (.iaload, 1) := by decide +kernel
theorem dX31_sift_35 : decode cX31_sift 35 = .ok (.iastore, 1) := by decide +kernel
theorem dX31_sift_36 : decode cX31_sift 36 = .ok (.aload_n 0, 1) := by decide +kernel
theorem dX31_sift_37 : decode cX31_sift 37 = .ok (.getfield 33, 3) := by decide +kernel
theorem dX31_sift_40 : decode cX31_sift 40 = .ok (.iload_n 1, 1) := by decide +kernel
theorem dX31_sift_41 : decode cX31_sift 41 = .ok (.aload_n 0, 1) := by decide +kernel
theorem dX31_sift_42 : decode cX31_sift 42 = .ok (.getfield 33, 3) := by decide +kernel
theorem dX31_sift_45 : decode cX31_sift 45 = .ok (.iload_n 2, 1) := by decide +kernel
theorem dX31_sift_46 : decode cX31_sift 46 = .ok (.iaload, 1) := by decide +kernel
theorem dX31_sift_47 : decode cX31_sift 47 = .ok (.iastore, 1) := by decide +kernel
theorem dX31_sift_48 : decode cX31_sift 48 = .ok (.aload_n 0, 1) := by decide +kernel
theorem dX31_sift_49 : decode cX31_sift 49 = .ok (.getfield 36, 3) := by decide +kernel
theorem dX31_sift_52 : decode cX31_sift 52 = .ok (.iload_n 1, 1) := by decide +kernel
theorem dX31_sift_53 : decode cX31_sift 53 = .ok (.aload_n 0, 1) := by decide +kernel
theorem dX31_sift_54 : decode cX31_sift 54 = .ok (.getfield 36, 3) := by decide +kernel
theorem dX31_sift_57 : decode cX31_sift 57 = .ok (.iload_n 2, 1) := by decide +kernel
theorem dX31_sift_58 : decode cX31_sift 58 = .ok (.iaload, 1) := by decide +kernel
theorem dX31_sift_59 : decode cX31_sift 59 = .ok (.iastore, 1) := by decide +kernel
theorem dX31_sift_60 : decode cX31_sift 60 = .ok (.iinc 1 1, 3) := by decide +kernel
theorem dX31_sift_63 : decode cX31_sift 63 = .ok (.iinc 2 1, 3) := by decide +kernel
theorem dX31_sift_66 : decode cX31_sift 66 = .ok (.goto (-62), 3) := by decide +kernel
theorem dX31_sift_69 : decode cX31_sift 69 = .ok (.aload_n 0, 1) := by decide +kernel
theorem dX31_sift_70 : decode cX31_sift 70 = .ok (.iload_n 1, 1) := by decide +kernel
theorem dX31_sift_71 : decode cX31_sift 71 = .ok (.putfield 79, 3) := by decide +kernel
theorem dX31_sift_74 : decode cX31_sift 74 = .ok (.return_, 1) := by decide +kernel
def j_X31_sift_63 (x0 x1 x2 : Int) (M : MM) : Option ((Int × Int × MM) ⊕ (MM)) :=
  cnt (x1, x2 + 1, M)
def b_X31_sift_4 (x0 x1 x2 : Int) (M : MM) : Option ((Int × Int × MM) ⊕ (MM)) :=
  (gfi 31 13 x0 M).bind fun v1 =>
  if w32 x2 < w32 v1 then
    (gfr 31 12 x0 M).bind fun v2 =>
    (laz v2 x2 M).bind fun v3 =>
    if w32 v3 = 0 then
      j_X31_sift_63 x0 x1 x2 M
    else
      (gfr 31 9 x0 M).bind fun v4 =>
      (gfr 31 9 x0 M).bind fun v5 =>
      (lai v5 x2 M).bind fun v6 =>
      (sai v4 x1 v6 M).bind fun M2 =>
      (gfr 31 10 x0 M2).bind fun v7 =>
      (gfr 31 10 x0 M2).bind fun v8 =>
      (lai v8 x2 M2).bind fun v9 =>
      (sai v7 x1 v9 M2).bind fun M3 =>
      (gfr 31 11 x0 M3).bind fun v10 =>
      (gfr 31 11 x0 M3).bind fun v11 =>
      (lai v11 x2 M3).bind fun v12 =>
      (sai v10 x1 v12 M3).bind fun M4 =>
      j_X31_sift_63 x0 (x1 + 1) x2 M4
  else
    xit ((pfi 31 13 x0 x1 M).bind fun M1 => some M1)
def l_X31_sift_4 (x0 x1 x2 : Int) (M : MM) : Option (MM) := lpN (fun s : Int × Int × MM => b_X31_sift_4 x0 s.1 s.2.1 s.2.2) FU (x1, x2, M)
def f_X31_sift (x0 : Int) (M : MM) : Option (MM) :=
  l_X31_sift_4 x0 0 0 M
theorem s_X31_sift_63 {g : GG} {d : Nat} (hD : 0 ≤ d) {x0 x1 x2 : Int} {M : MM} {o : AV × MM} {P : ((Int × Int × MM) ⊕ (MM)) → Prop} (c0 : ∀ s : Int × Int × MM, P (.inl s) → Sem g d YX31_sift 4 [(1, x0), (0, s.1), (0, s.2.1)] [] s.2.2 o) (r0 : ∀ r : MM, P (.inr r) → o = ((9, 0), r)) {z : (Int × Int × MM) ⊕ (MM)} (h : j_X31_sift_63 x0 x1 x2 M = some z) (hz : P z) : Sem g d YX31_sift 63 [(1, x0), (0, x1), (0, x2)] [] M o := by
  delta j_X31_sift_63 at h
  refine S_iinc dX31_sift_63 rfl rfl rfl ?_
  change Sem g d YX31_sift 66 [(1, x0), (0, x1), (0, x2 + 1)] [] M o
  refine S_goto (tgt := 4) dX31_sift_66 rfl ?_
  exact c0 (x1, x2 + 1, M) (some_P (P := fun r => P r) h hz)
theorem s_X31_sift_4 {g : GG} {d : Nat} (hD : 0 ≤ d) {x0 x1 x2 : Int} {M : MM} {o : AV × MM} {P : ((Int × Int × MM) ⊕ (MM)) → Prop} (c0 : ∀ s : Int × Int × MM, P (.inl s) → Sem g d YX31_sift 4 [(1, x0), (0, s.1), (0, s.2.1)] [] s.2.2 o) (r0 : ∀ r : MM, P (.inr r) → o = ((9, 0), r)) {z : (Int × Int × MM) ⊕ (MM)} (h : b_X31_sift_4 x0 x1 x2 M = some z) (hz : P z) : Sem g d YX31_sift 4 [(1, x0), (0, x1), (0, x2)] [] M o := by
  delta b_X31_sift_4 at h
  refine S_iload_n (i := 2) dX31_sift_4 rfl rfl ?_
  refine S_aload_n (i := 0) dX31_sift_5 rfl rfl ?_
  refine P_gfi FLX31_79 rfl dX31_sift_6 h (fun v1 h => ?_)
  refine P_icmp_ge (tgt := 69) dX31_sift_9 rfl h (fun h => ?_) (fun h => ?_)
  · obtain ⟨z0, h, hz⟩ := xit_some' (P := fun r => P r) h hz
    refine S_aload_n (i := 0) dX31_sift_69 rfl rfl ?_
    refine S_iload_n (i := 1) dX31_sift_70 rfl rfl ?_
    refine P_pfi FLX31_79 FPX31_79 rfl dX31_sift_71 h (fun M1 h => ?_)
    obtain rfl := r0 _ (some_P (P := fun r => P (.inr r)) h hz)
    exact S_return dX31_sift_74 rfl
  · refine S_aload_n (i := 0) dX31_sift_12 rfl rfl ?_
    refine P_gfr FLX31_39 rfl dX31_sift_13 h (fun v2 h => ?_)
    refine S_iload_n (i := 2) dX31_sift_16 rfl rfl ?_
    refine P_laz dX31_sift_17 h (fun v3 h => ?_)
    refine P_if_ne (tgt := 24) dX31_sift_18 rfl h (fun h => ?_) (fun h => ?_)
    · refine S_aload_n (i := 0) dX31_sift_24 rfl rfl ?_
      refine P_gfr FLX31_30 rfl dX31_sift_25 h (fun v4 h => ?_)
      refine S_iload_n (i := 1) dX31_sift_28 rfl rfl ?_
      refine S_aload_n (i := 0) dX31_sift_29 rfl rfl ?_
      refine P_gfr FLX31_30 rfl dX31_sift_30 h (fun v5 h => ?_)
      refine S_iload_n (i := 2) dX31_sift_33 rfl rfl ?_
      refine P_lai dX31_sift_34 h (fun v6 h => ?_)
      refine P_sai dX31_sift_35 h (fun M2 h => ?_)
      refine S_aload_n (i := 0) dX31_sift_36 rfl rfl ?_
      refine P_gfr FLX31_33 rfl dX31_sift_37 h (fun v7 h => ?_)
      refine S_iload_n (i := 1) dX31_sift_40 rfl rfl ?_
      refine S_aload_n (i := 0) dX31_sift_41 rfl rfl ?_
      refine P_gfr FLX31_33 rfl dX31_sift_42 h (fun v8 h => ?_)
      refine S_iload_n (i := 2) dX31_sift_45 rfl rfl ?_
      refine P_lai dX31_sift_46 h (fun v9 h => ?_)
      refine P_sai dX31_sift_47 h (fun M3 h => ?_)
      refine S_aload_n (i := 0) dX31_sift_48 rfl rfl ?_
      refine P_gfr FLX31_36 rfl dX31_sift_49 h (fun v10 h => ?_)
      refine S_iload_n (i := 1) dX31_sift_52 rfl rfl ?_
      refine S_aload_n (i := 0) dX31_sift_53 rfl rfl ?_
      refine P_gfr FLX31_36 rfl dX31_sift_54 h (fun v11 h => ?_)
      refine S_iload_n (i := 2) dX31_sift_57 rfl rfl ?_
      refine P_lai dX31_sift_58 h (fun v12 h => ?_)
      refine P_sai dX31_sift_59 h (fun M4 h => ?_)
      refine S_iinc dX31_sift_60 rfl rfl rfl ?_
      change Sem g d YX31_sift 63 [(1, x0), (0, x1 + 1), (0, x2)] [] M4 o
      exact s_X31_sift_63 hD c0 r0 h hz
    · refine S_goto (tgt := 63) dX31_sift_21 rfl ?_
      exact s_X31_sift_63 hD c0 r0 h hz
theorem sl_X31_sift_4 {g : GG} {d : Nat} (hD : 0 ≤ d) {x0 x1 x2 : Int} {M : MM} {o : AV × MM} {P : (MM) → Prop} (r0 : ∀ r : MM, P r → o = ((9, 0), r)) {z : MM} (h : l_X31_sift_4 x0 x1 x2 M = some z) (hz : P z) : Sem g d YX31_sift 4 [(1, x0), (0, x1), (0, x2)] [] M o := by
  refine lp_sound (S := fun s : Int × Int × MM => Sem g d YX31_sift 4 [(1, x0), (0, s.1), (0, s.2.1)] [] s.2.2 o) (P := P) ?_ FU (x1, x2, M) z h hz
  intro s x hx hP
  exact s_X31_sift_4 hD (P := Sum.elim (fun s : Int × Int × MM => Sem g d YX31_sift 4 [(1, x0), (0, s.1), (0, s.2.1)] [] s.2.2 o) P) (fun s h => h) (fun s h => r0 s h) hx hP
theorem s_X31_sift_0 {g : GG} {d : Nat} (hD : 0 ≤ d) {x0 : Int} {M : MM} {o : AV × MM} {P : (MM) → Prop} (r0 : ∀ r : MM, P r → o = ((9, 0), r)) {z : MM} (h : f_X31_sift x0 M = some z) (hz : P z) : Sem g d YX31_sift 0 [(1, x0), (9, 0), (9, 0)] [] M o := by
  delta f_X31_sift at h
  refine S_iconst dX31_sift_0 rfl ?_
  refine S_istore_n (i := 1) dX31_sift_1 rfl (Nat.le_of_ble_eq_true rfl) rfl rfl ?_
  change Sem g d YX31_sift 2 [(1, x0), (0, 0), (9, 0)] [] M o
  refine S_iconst dX31_sift_2 rfl ?_
  refine S_istore_n (i := 2) dX31_sift_3 rfl (Nat.le_of_ble_eq_true rfl) rfl rfl ?_
  change Sem g d YX31_sift 4 [(1, x0), (0, 0), (0, 0)] [] M o
  exact sl_X31_sift_4 hD r0 h hz
theorem F_X31_sift {g : GG} {d : Nat} (hD : 0 ≤ d) {x0 : Int} {M : MM} {r : MM} (h : f_X31_sift x0 M = some r) : Sem g d YX31_sift 0 (ini YX31_sift [(1, x0)]) [] M ((9, 0), r) := by
  change Sem g d YX31_sift 0 [(1, x0), (9, 0), (9, 0)] [] M ((9, 0), r)
  exact s_X31_sift_0 hD (P := fun x => x = r) (fun q e => by rw [e]) h rfl
/-! PeerSearch$Filter.begin(II)V -/
theorem dX10_begin_0 : decode cX10_begin 0 = .ok (.aload_n 0, 1) := by decide +kernel
theorem dX10_begin_1 : decode cX10_begin 1 = .ok (.iload_n 2, 1) := by decide +kernel
theorem dX10_begin_2 : decode cX10_begin 2 = .ok (.putfield 29, 3) := by decide +kernel
theorem dX10_begin_5 : decode cX10_begin 5 = .ok (.aload_n 0, 1) := by decide +kernel
theorem dX10_begin_6 : decode cX10_begin 6 = .ok (.iload_n 1, 1) := by decide +kernel
theorem dX10_begin_7 : decode cX10_begin 7 = .ok (.iload_n 2, 1) := by decide +kernel
theorem dX10_begin_8 : decode cX10_begin 8 = .ok (.imul, 1) := by decide +kernel
theorem dX10_begin_9 : decode cX10_begin 9 = .ok (.sipush 1443, 3) := by decide +kernel
theorem dX10_begin_12 : decode cX10_begin 12 = .ok (.imul, 1) := by decide +kernel
theorem dX10_begin_13 : decode cX10_begin 13 = .ok (.sipush 7999, 3) := by decide +kernel
theorem dX10_begin_16 : decode cX10_begin 16 = .ok (.iadd, 1) := by decide +kernel
theorem dX10_begin_17 : decode cX10_begin 17 = .ok (.sipush 8000, 3) := by decide +kernel
theorem dX10_begin_20 : decode cX10_begin 20 = .ok (.idiv, 1) := by decide +kernel
theorem dX10_begin_21 : decode cX10_begin 21 = .ok (.putfield 33, 3) := by decide +kernel
theorem dX10_begin_24 : decode cX10_begin 24 = .ok (.iconst 0, 1) := by decide +kernel
theorem dX10_begin_25 : decode cX10_begin 25 = .ok (.istore_n 3, 1) := by decide +kernel
theorem dX10_begin_26 : decode cX10_begin 26 = .ok (.iload_n 3, 1) := by decide +kernel
theorem dX10_begin_27 : decode cX10_begin 27 = .ok (.aload_n 0, 1) := by decide +kernel
theorem dX10_begin_28 : decode cX10_begin 28 = .ok (.getfield 33, 3) := by decide +kernel
theorem dX10_begin_31 : decode cX10_begin 31 = .ok (.if_icmp .ge 16, 3) := by decide +kernel
theorem dX10_begin_34 : decode cX10_begin 34 = .ok (.aload_n 0, 1) := by decide +kernel
theorem dX10_begin_35 : decode cX10_begin 35 = .ok (.getfield 9, 3) := by decide +kernel
theorem dX10_begin_38 : decode cX10_begin 38 = .ok (.iload_n 3, 1) := by decide +kernel
theorem dX10_begin_39 : decode cX10_begin 39 = .ok (.iconst 0, 1) := by decide +kernel
theorem dX10_begin_40 : decode cX10_begin 40 = .ok (.bastore, 1) := by decide +kernel
theorem dX10_begin_41 : decode cX10_begin 41 = .ok (.iinc 3 1, 3) := by decide +kernel
theorem dX10_begin_44 : decode cX10_begin 44 = .ok (.goto (-18), 3) := by decide +kernel
theorem dX10_begin_47 : decode cX10_begin 47 = .ok (.return_, 1) := by decide +kernel
def b_X10_begin_26 (x0 x3 : Int) (M : MM) : Option ((Int × MM) ⊕ (MM)) :=
  (gfi 10 1 x0 M).bind fun v1 =>
  if w32 x3 < w32 v1 then
    (gfr 10 0 x0 M).bind fun v2 =>
    (sab v2 x3 0 M).bind fun M1 =>
    cnt (x3 + 1, M1)
  else
    xit (some M)
def l_X10_begin_26 (x0 x3 : Int) (M : MM) : Option (MM) := lpN (fun s : Int × MM => b_X10_begin_26 x0 s.1 s.2) FU (x3, M)
def f_X10_begin (x0 x1 x2 : Int) (M : MM) : Option (MM) :=
  (pfi 10 2 x0 x2 M).bind fun M1 =>
  (dvi (((x1 * x2) * 1443) + 7999) 8000).bind fun v1 =>
  (pfi 10 1 x0 v1 M1).bind fun M2 =>
  l_X10_begin_26 x0 0 M2
theorem s_X10_begin_26 {g : GG} {d : Nat} (hD : 0 ≤ d) {x0 x3 : Int} {M : MM} {o : AV × MM} {P : ((Int × MM) ⊕ (MM)) → Prop} (c0 : ∀ s : Int × MM, P (.inl s) → Sem g d YX10_begin 26 [(1, x0), (9, 0), (9, 0), (0, s.1)] [] s.2 o) (r0 : ∀ r : MM, P (.inr r) → o = ((9, 0), r)) {z : (Int × MM) ⊕ (MM)} (h : b_X10_begin_26 x0 x3 M = some z) (hz : P z) : Sem g d YX10_begin 26 [(1, x0), (9, 0), (9, 0), (0, x3)] [] M o := by
  delta b_X10_begin_26 at h
  refine S_iload_n (i := 3) dX10_begin_26 rfl rfl ?_
  refine S_aload_n (i := 0) dX10_begin_27 rfl rfl ?_
  refine P_gfi FLX10_33 rfl dX10_begin_28 h (fun v1 h => ?_)
  refine P_icmp_ge (tgt := 47) dX10_begin_31 rfl h (fun h => ?_) (fun h => ?_)
  · obtain ⟨z0, h, hz⟩ := xit_some' (P := fun r => P r) h hz
    obtain rfl := r0 _ (some_P (P := fun r => P (.inr r)) h hz)
    exact S_return dX10_begin_47 rfl
  · refine S_aload_n (i := 0) dX10_begin_34 rfl rfl ?_
    refine P_gfr FLX10_9 rfl dX10_begin_35 h (fun v2 h => ?_)
    refine S_iload_n (i := 3) dX10_begin_38 rfl rfl ?_
    refine S_iconst dX10_begin_39 rfl ?_
    refine P_sab dX10_begin_40 h (fun M1 h => ?_)
    refine S_iinc dX10_begin_41 rfl rfl rfl ?_
    change Sem g d YX10_begin 44 [(1, x0), (9, 0), (9, 0), (0, x3 + 1)] [] M1 o
    refine S_goto (tgt := 26) dX10_begin_44 rfl ?_
    exact c0 (x3 + 1, M1) (some_P (P := fun r => P r) h hz)
theorem sl_X10_begin_26 {g : GG} {d : Nat} (hD : 0 ≤ d) {x0 x3 : Int} {M : MM} {o : AV × MM} {P : (MM) → Prop} (r0 : ∀ r : MM, P r → o = ((9, 0), r)) {z : MM} (h : l_X10_begin_26 x0 x3 M = some z) (hz : P z) : Sem g d YX10_begin 26 [(1, x0), (9, 0), (9, 0), (0, x3)] [] M o := by
  refine lp_sound (S := fun s : Int × MM => Sem g d YX10_begin 26 [(1, x0), (9, 0), (9, 0), (0, s.1)] [] s.2 o) (P := P) ?_ FU (x3, M) z h hz
  intro s x hx hP
  exact s_X10_begin_26 hD (P := Sum.elim (fun s : Int × MM => Sem g d YX10_begin 26 [(1, x0), (9, 0), (9, 0), (0, s.1)] [] s.2 o) P) (fun s h => h) (fun s h => r0 s h) hx hP
theorem s_X10_begin_0 {g : GG} {d : Nat} (hD : 0 ≤ d) {x0 x1 x2 : Int} {M : MM} {o : AV × MM} {P : (MM) → Prop} (r0 : ∀ r : MM, P r → o = ((9, 0), r)) {z : MM} (h : f_X10_begin x0 x1 x2 M = some z) (hz : P z) : Sem g d YX10_begin 0 [(1, x0), (0, x1), (0, x2), (9, 0)] [] M o := by
  delta f_X10_begin at h
  refine S_aload_n (i := 0) dX10_begin_0 rfl rfl ?_
  refine S_iload_n (i := 2) dX10_begin_1 rfl rfl ?_
  refine P_pfi FLX10_29 FPX10_29 rfl dX10_begin_2 h (fun M1 h => ?_)
  refine S_aload_n (i := 0) dX10_begin_5 rfl rfl ?_
  refine S_iload_n (i := 1) dX10_begin_6 rfl rfl ?_
  refine S_iload_n (i := 2) dX10_begin_7 rfl rfl ?_
  refine S_imul dX10_begin_8 ?_
  refine S_sipush (z := 1443) dX10_begin_9 rfl ?_
  refine S_imul dX10_begin_12 ?_
  refine S_sipush (z := 7999) dX10_begin_13 rfl ?_
  refine S_iadd dX10_begin_16 ?_
  refine S_sipush (z := 8000) dX10_begin_17 rfl ?_
  refine P_dvi dX10_begin_20 h (fun v1 h => ?_)
  refine P_pfi FLX10_33 FPX10_33 rfl dX10_begin_21 h (fun M2 h => ?_)
  refine S_iconst dX10_begin_24 rfl ?_
  refine S_istore_n (i := 3) dX10_begin_25 rfl (Nat.le_of_ble_eq_true rfl) rfl rfl ?_
  change Sem g d YX10_begin 26 [(1, x0), (0, x1), (0, x2), (0, 0)] [] M2 o
  refine S_weak (ls' := [(1, x0), (9, 0), (9, 0), (0, 0)]) ⟨Or.inr rfl, ⟨Or.inl rfl, ⟨Or.inl rfl, ⟨Or.inr rfl, trivial⟩⟩⟩⟩ ?_
  exact sl_X10_begin_26 hD r0 h hz
theorem F_X10_begin {g : GG} {d : Nat} (hD : 0 ≤ d) {x0 x1 x2 : Int} {M : MM} {r : MM} (h : f_X10_begin x0 x1 x2 M = some r) : Sem g d YX10_begin 0 (ini YX10_begin [(1, x0), (0, x1), (0, x2)]) [] M ((9, 0), r) := by
  change Sem g d YX10_begin 0 [(1, x0), (0, x1), (0, x2), (9, 0)] [] M ((9, 0), r)
  exact s_X10_begin_0 hD (P := fun x => x = r) (fun q e => by rw [e]) h rfl
/-! PeerSearch$Filter.write(LPeerSearch$Packet;)V -/
theorem dX10_write_0 : decode cX10_write 0 = .ok (.aload_n 1, 1) := by decide +kernel
theorem dX10_write_1 : decode cX10_write 1 = .ok (.aload_n 0, 1) := by decide +kernel
theorem dX10_write_2 : decode cX10_write 2 = .ok (.getfield 29, 3) := by decide +kernel
theorem dX10_write_5 : decode cX10_write 5 = .ok (.iconst 1, 1) := by decide +kernel
theorem dX10_write_6 : decode cX10_write 6 = .ok (.invokevirtual 64, 3) := by decide +kernel
theorem dX10_write_9 : decode cX10_write 9 = .ok (.aload_n 1, 1) := by decide +kernel
theorem dX10_write_10 : decode cX10_write 10 = .ok (.aload_n 0, 1) := by decide +kernel
theorem dX10_write_11 : decode cX10_write 11 = .ok (.getfield 33, 3) := by decide +kernel
theorem dX10_write_14 : decode cX10_write 14 = .ok (.iconst 2, 1) := by decide +kernel
theorem dX10_write_15 : decode cX10_write 15 = .ok (.invokevirtual 64, 3) := by decide +kernel
theorem dX10_write_18 : decode cX10_write 18 = .ok (.iconst 0, 1) := by decide +kernel
theorem dX10_write_19 : decode cX10_write 19 = .ok (.istore_n 2, 1) := by decide +kernel
theorem dX10_write_20 : decode cX10_write 20 = .ok (.iload_n 2, 1) := by decide +kernel
theorem dX10_write_21 : decode cX10_write 21 = .ok (.aload_n 0, 1) := by decide +kernel
theorem dX10_write_22 : decode cX10_write 22 = .ok (.getfield 33, 3) := by decide +kernel
theorem dX10_write_25 : decode cX10_write 25 = .ok (.if_icmp .ge 20, 3) := by decide +kernel
theorem dX10_write_28 : decode cX10_write 28 = .ok (.aload_n 1, 1) := by decide +kernel
theorem dX10_write_29 : decode cX10_write 29 = .ok (.aload_n 0, 1) := by decide +kernel
theorem dX10_write_30 : decode cX10_write 30 = .ok (.getfield 9, 3) := by decide +kernel
theorem dX10_write_33 : decode cX10_write 33 = .ok (.iload_n 2, 1) := by decide +kernel
theorem dX10_write_34 : decode cX10_write 34 = .ok (.baload, 1) := by decide +kernel
theorem dX10_write_35 : decode cX10_write 35 = .ok (.iconst 1, 1) := by decide +kernel
theorem dX10_write_36 : decode cX10_write 36 = .ok (.invokevirtual 64, 3) := by decide +kernel
theorem dX10_write_39 : decode cX10_write 39 = .ok (.iinc 2 1, 3) := by decide +kernel
theorem dX10_write_42 : decode cX10_write 42 = .ok (.goto (-22), 3) := by decide +kernel
theorem dX10_write_45 : decode cX10_write 45 = .ok (.return_, 1) := by decide +kernel
def b_X10_write_20 (x0 x1 x2 : Int) (M : MM) : Option ((Int × MM) ⊕ (MM)) :=
  (gfi 10 1 x0 M).bind fun v1 =>
  if w32 x2 < w32 v1 then
    (gfr 10 0 x0 M).bind fun v2 =>
    (lab v2 x2 M).bind fun v3 =>
    ck 4 x1 M <| (f_X4_put x1 v3 1 M).bind fun M1 =>
    cnt (x2 + 1, M1)
  else
    xit (some M)
def l_X10_write_20 (x0 x1 x2 : Int) (M : MM) : Option (MM) := lpN (fun s : Int × MM => b_X10_write_20 x0 x1 s.1 s.2) FU (x2, M)
def f_X10_write (x0 x1 : Int) (M : MM) : Option (MM) :=
  (gfi 10 2 x0 M).bind fun v1 =>
  ck 4 x1 M <| (f_X4_put x1 v1 1 M).bind fun M1 =>
  (gfi 10 1 x0 M1).bind fun v2 =>
  ck 4 x1 M1 <| (f_X4_put x1 v2 2 M1).bind fun M2 =>
  l_X10_write_20 x0 x1 0 M2
theorem s_X10_write_20 {g : GG} {d : Nat} (hD : 1 ≤ d) {x0 x1 x2 : Int} {M : MM} {o : AV × MM} {P : ((Int × MM) ⊕ (MM)) → Prop} (c0 : ∀ s : Int × MM, P (.inl s) → Sem g d YX10_write 20 [(1, x0), (1, x1), (0, s.1)] [] s.2 o) (r0 : ∀ r : MM, P (.inr r) → o = ((9, 0), r)) {z : (Int × MM) ⊕ (MM)} (h : b_X10_write_20 x0 x1 x2 M = some z) (hz : P z) : Sem g d YX10_write 20 [(1, x0), (1, x1), (0, x2)] [] M o := by
  delta b_X10_write_20 at h
  refine S_iload_n (i := 2) dX10_write_20 rfl rfl ?_
  refine S_aload_n (i := 0) dX10_write_21 rfl rfl ?_
  refine P_gfi FLX10_33 rfl dX10_write_22 h (fun v1 h => ?_)
  refine P_icmp_ge (tgt := 45) dX10_write_25 rfl h (fun h => ?_) (fun h => ?_)
  · obtain ⟨z0, h, hz⟩ := xit_some' (P := fun r => P r) h hz
    obtain rfl := r0 _ (some_P (P := fun r => P (.inr r)) h hz)
    exact S_return dX10_write_45 rfl
  · refine S_aload_n (i := 1) dX10_write_28 rfl rfl ?_
    refine S_aload_n (i := 0) dX10_write_29 rfl rfl ?_
    refine P_gfr FLX10_9 rfl dX10_write_30 h (fun v2 h => ?_)
    refine S_iload_n (i := 2) dX10_write_33 rfl rfl ?_
    refine P_lab dX10_write_34 h (fun v3 h => ?_)
    refine S_iconst dX10_write_35 rfl ?_
    refine P_invVm' [(0, v3), (0, 1)] [] CVX4_put MLX10_64 dX10_write_36 rfl rfl rfl rfl (by omega) h (fun r h => F_X4_put (by omega) h) (fun M1 h => ?_)
    refine S_iinc dX10_write_39 rfl rfl rfl ?_
    change Sem g d YX10_write 42 [(1, x0), (1, x1), (0, x2 + 1)] [] M1 o
    refine S_goto (tgt := 20) dX10_write_42 rfl ?_
    exact c0 (x2 + 1, M1) (some_P (P := fun r => P r) h hz)
theorem sl_X10_write_20 {g : GG} {d : Nat} (hD : 1 ≤ d) {x0 x1 x2 : Int} {M : MM} {o : AV × MM} {P : (MM) → Prop} (r0 : ∀ r : MM, P r → o = ((9, 0), r)) {z : MM} (h : l_X10_write_20 x0 x1 x2 M = some z) (hz : P z) : Sem g d YX10_write 20 [(1, x0), (1, x1), (0, x2)] [] M o := by
  refine lp_sound (S := fun s : Int × MM => Sem g d YX10_write 20 [(1, x0), (1, x1), (0, s.1)] [] s.2 o) (P := P) ?_ FU (x2, M) z h hz
  intro s x hx hP
  exact s_X10_write_20 hD (P := Sum.elim (fun s : Int × MM => Sem g d YX10_write 20 [(1, x0), (1, x1), (0, s.1)] [] s.2 o) P) (fun s h => h) (fun s h => r0 s h) hx hP
theorem s_X10_write_0 {g : GG} {d : Nat} (hD : 1 ≤ d) {x0 x1 : Int} {M : MM} {o : AV × MM} {P : (MM) → Prop} (r0 : ∀ r : MM, P r → o = ((9, 0), r)) {z : MM} (h : f_X10_write x0 x1 M = some z) (hz : P z) : Sem g d YX10_write 0 [(1, x0), (1, x1), (9, 0)] [] M o := by
  delta f_X10_write at h
  refine S_aload_n (i := 1) dX10_write_0 rfl rfl ?_
  refine S_aload_n (i := 0) dX10_write_1 rfl rfl ?_
  refine P_gfi FLX10_29 rfl dX10_write_2 h (fun v1 h => ?_)
  refine S_iconst dX10_write_5 rfl ?_
  refine P_invVm' [(0, v1), (0, 1)] [] CVX4_put MLX10_64 dX10_write_6 rfl rfl rfl rfl (by omega) h (fun r h => F_X4_put (by omega) h) (fun M1 h => ?_)
  refine S_aload_n (i := 1) dX10_write_9 rfl rfl ?_
  refine S_aload_n (i := 0) dX10_write_10 rfl rfl ?_
  refine P_gfi FLX10_33 rfl dX10_write_11 h (fun v2 h => ?_)
  refine S_iconst dX10_write_14 rfl ?_
  refine P_invVm' [(0, v2), (0, 2)] [] CVX4_put MLX10_64 dX10_write_15 rfl rfl rfl rfl (by omega) h (fun r h => F_X4_put (by omega) h) (fun M2 h => ?_)
  refine S_iconst dX10_write_18 rfl ?_
  refine S_istore_n (i := 2) dX10_write_19 rfl (Nat.le_of_ble_eq_true rfl) rfl rfl ?_
  change Sem g d YX10_write 20 [(1, x0), (1, x1), (0, 0)] [] M2 o
  exact sl_X10_write_20 hD r0 h hz
theorem F_X10_write {g : GG} {d : Nat} (hD : 1 ≤ d) {x0 x1 : Int} {M : MM} {r : MM} (h : f_X10_write x0 x1 M = some r) : Sem g d YX10_write 0 (ini YX10_write [(1, x0), (1, x1)]) [] M ((9, 0), r) := by
  change Sem g d YX10_write 0 [(1, x0), (1, x1), (9, 0)] [] M ((9, 0), r)
  exact s_X10_write_0 hD (P := fun x => x = r) (fun q e => by rw [e]) h rfl
/-! PeerSearch$Net.setting(I)I -/
theorem dX7_setting_0 : decode cX7_setting 0 = .ok (.aload_n 0, 1) := by decide +kernel
theorem dX7_setting_1 : decode cX7_setting 1 = .ok (.getfield 9, 3) := by decide +kernel
theorem dX7_setting_4 : decode cX7_setting 4 = .ok (.iload_n 1, 1) := by decide +kernel
theorem dX7_setting_5 : decode cX7_setting 5 = .ok (.iaload, 1) := by decide +kernel
theorem dX7_setting_6 : decode cX7_setting 6 = .ok (.ireturn, 1) := by decide +kernel
def f_X7_setting (x0 x1 : Int) (M : MM) : Option (Int) :=
  (gfr 7 0 x0 M).bind fun v1 =>
  (lai v1 x1 M).bind fun v2 =>
  some v2
theorem s_X7_setting_0 {g : GG} {d : Nat} (hD : 0 ≤ d) {x0 x1 : Int} {M : MM} {o : AV × MM} {P : (Int) → Prop} (r0 : ∀ r : Int, P r → o = ((0, r), M)) {z : Int} (h : f_X7_setting x0 x1 M = some z) (hz : P z) : Sem g d YX7_setting 0 [(1, x0), (0, x1)] [] M o := by
  delta f_X7_setting at h
  refine S_aload_n (i := 0) dX7_setting_0 rfl rfl ?_
  refine P_gfr FLX7_9 rfl dX7_setting_1 h (fun v1 h => ?_)
  refine S_iload_n (i := 1) dX7_setting_4 rfl rfl ?_
  refine P_lai dX7_setting_5 h (fun v2 h => ?_)
  obtain rfl := r0 _ (some_P (P := fun r => P r) h hz)
  exact P_ret dX7_setting_6 rfl (Or.inl rfl)
theorem F_X7_setting {g : GG} {d : Nat} (hD : 0 ≤ d) {x0 x1 : Int} {M : MM} {r : Int} (h : f_X7_setting x0 x1 M = some r) : Sem g d YX7_setting 0 (ini YX7_setting [(1, x0), (0, x1)]) [] M ((0, r), M) := by
  change Sem g d YX7_setting 0 [(1, x0), (0, x1)] [] M ((0, r), M)
  exact s_X7_setting_0 hD (P := fun x => x = r) (fun q e => by rw [e]) h rfl
/-! PeerSearch$Filter.read(LPeerSearch$Packet;I)V -/
theorem dX10_read_0 : decode cX10_read 0 = .ok (.aload_n 0, 1) := by decide +kernel
theorem dX10_read_1 : decode cX10_read 1 = .ok (.aload_n 1, 1) := by decide +kernel
theorem dX10_read_2 : decode cX10_read 2 = .ok (.iload_n 2, 1) := by decide +kernel
theorem dX10_read_3 : decode cX10_read 3 = .ok (.iconst 1, 1) := by decide +kernel
theorem dX10_read_4 : decode cX10_read 4 = .ok (.invokevirtual 58, 3) := by decide +kernel
theorem dX10_read_7 : decode cX10_read 7 = .ok (.putfield 29, 3) := by decide +kernel
theorem dX10_read_10 : decode cX10_read 10 = .ok (.aload_n 0, 1) := by decide +kernel
theorem dX10_read_11 : decode cX10_read 11 = .ok (.aload_n 1, 1) := by decide +kernel
theorem dX10_read_12 : decode cX10_read 12 = .ok (.iload_n 2, 1) := by decide +kernel
theorem dX10_read_13 : decode cX10_read 13 = .ok (.iconst 1, 1) := by decide +kernel
theorem dX10_read_14 : decode cX10_read 14 = .ok (.iadd, 1) := by decide +kernel
theorem dX10_read_15 : decode cX10_read 15 = .ok (.iconst 2, 1) := by decide +kernel
theorem dX10_read_16 : decode cX10_read 16 = .ok (.invokevirtual 58, 3) := by decide +kernel
theorem dX10_read_19 : decode cX10_read 19 = .ok (.putfield 33, 3) := by decide +kernel
theorem dX10_read_22 : decode cX10_read 22 = .ok (.iconst 0, 1) := by decide +kernel
theorem dX10_read_23 : decode cX10_read 23 = .ok (.istore_n 3, 1) := by decide +kernel
theorem dX10_read_24 : decode cX10_read 24 = .ok (.iload_n 3, 1) := by decide +kernel
theorem dX10_read_25 : decode cX10_read 25 = .ok (.aload_n 0, 1) := by decide +kernel
theorem dX10_read_26 : decode cX10_read 26 = .ok (.getfield 33, 3) := by decide +kernel
theorem dX10_read_29 : decode cX10_read 29 = .ok (.if_icmp .ge 26, 3) := by decide +kernel
theorem dX10_read_32 : decode cX10_read 32 = .ok (.aload_n 0, 1) := by decide +kernel
theorem dX10_read_33 : decode cX10_read 33 = .ok (.getfield 9, 3) := by decide +kernel
theorem dX10_read_36 : decode cX10_read 36 = .ok (.iload_n 3, 1) := by decide +kernel
theorem dX10_read_37 : decode cX10_read 37 = .ok (.aload_n 1, 1) := by decide +kernel
theorem dX10_read_38 : decode cX10_read 38 = .ok (.iload_n 2, 1) := by decide +kernel
theorem dX10_read_39 : decode cX10_read 39 = .ok (.iconst 3, 1) := by decide +kernel
theorem dX10_read_40 : decode cX10_read 40 = .ok (.iadd, 1) := by decide +kernel
theorem dX10_read_41 : decode cX10_read 41 = .ok (.iload_n 3, 1) := by decide +kernel
theorem dX10_read_42 : decode cX10_read 42 = .ok (.iadd, 1) := by decide +kernel
theorem dX10_read_43 : decode cX10_read 43 = .ok (.iconst 1, 1) := by decide +kernel
theorem dX10_read_44 : decode cX10_read 44 = .ok (.invokevirtual 58, 3) := by decide +kernel
theorem dX10_read_47 : decode cX10_read 47 = .ok (.i2b, 1) := by decide +kernel
theorem dX10_read_48 : decode cX10_read 48 = .ok (.bastore, 1) := by decide +kernel
theorem dX10_read_49 : decode cX10_read 49 = .ok (.iinc 3 1, 3) := by decide +kernel
theorem dX10_read_52 : decode cX10_read 52 = .ok (.goto (-28), 3) := by decide +kernel
theorem dX10_read_55 : decode cX10_read 55 = .ok (.return_, 1) := by decide +kernel
def b_X10_read_24 (x0 x1 x2 x3 : Int) (M : MM) : Option ((Int × MM) ⊕ (MM)) :=
  (gfi 10 1 x0 M).bind fun v1 =>
  if w32 x3 < w32 v1 then
    (gfr 10 0 x0 M).bind fun v2 =>
    ck 4 x1 M <| (f_X4_get x1 ((x2 + 3) + x3) 1 M).bind fun v3 =>
    (sab v2 x3 (sx8 v3) M).bind fun M1 =>
    cnt (x3 + 1, M1)
  else
    xit (some M)
def l_X10_read_24 (x0 x1 x2 x3 : Int) (M : MM) : Option (MM) := lpN (fun s : Int × MM => b_X10_read_24 x0 x1 x2 s.1 s.2) FU (x3, M)
def f_X10_read (x0 x1 x2 : Int) (M : MM) : Option (MM) :=
  ck 4 x1 M <| (f_X4_get x1 x2 1 M).bind fun v1 =>
  (pfi 10 2 x0 v1 M).bind fun M1 =>
  ck 4 x1 M1 <| (f_X4_get x1 (x2 + 1) 2 M1).bind fun v2 =>
  (pfi 10 1 x0 v2 M1).bind fun M2 =>
  l_X10_read_24 x0 x1 x2 0 M2
theorem s_X10_read_24 {g : GG} {d : Nat} (hD : 1 ≤ d) {x0 x1 x2 x3 : Int} {M : MM} {o : AV × MM} {P : ((Int × MM) ⊕ (MM)) → Prop} (c0 : ∀ s : Int × MM, P (.inl s) → Sem g d YX10_read 24 [(1, x0), (1, x1), (0, x2), (0, s.1)] [] s.2 o) (r0 : ∀ r : MM, P (.inr r) → o = ((9, 0), r)) {z : (Int × MM) ⊕ (MM)} (h : b_X10_read_24 x0 x1 x2 x3 M = some z) (hz : P z) : Sem g d YX10_read 24 [(1, x0), (1, x1), (0, x2), (0, x3)] [] M o := by
  delta b_X10_read_24 at h
  refine S_iload_n (i := 3) dX10_read_24 rfl rfl ?_
  refine S_aload_n (i := 0) dX10_read_25 rfl rfl ?_
  refine P_gfi FLX10_33 rfl dX10_read_26 h (fun v1 h => ?_)
  refine P_icmp_ge (tgt := 55) dX10_read_29 rfl h (fun h => ?_) (fun h => ?_)
  · obtain ⟨z0, h, hz⟩ := xit_some' (P := fun r => P r) h hz
    obtain rfl := r0 _ (some_P (P := fun r => P (.inr r)) h hz)
    exact S_return dX10_read_55 rfl
  · refine S_aload_n (i := 0) dX10_read_32 rfl rfl ?_
    refine P_gfr FLX10_9 rfl dX10_read_33 h (fun v2 h => ?_)
    refine S_iload_n (i := 3) dX10_read_36 rfl rfl ?_
    refine S_aload_n (i := 1) dX10_read_37 rfl rfl ?_
    refine S_iload_n (i := 2) dX10_read_38 rfl rfl ?_
    refine S_iconst dX10_read_39 rfl ?_
    refine S_iadd dX10_read_40 ?_
    refine S_iload_n (i := 3) dX10_read_41 rfl rfl ?_
    refine S_iadd dX10_read_42 ?_
    refine S_iconst dX10_read_43 rfl ?_
    refine P_invVp 0 [(0, (x2 + 3) + x3), (0, 1)] [(0, x3), (1, v2)] CVX4_get MLX10_58 dX10_read_44 rfl rfl rfl rfl rfl (by omega) h (fun r h => F_X4_get (by omega) h) (fun v3 h => ?_)
    refine S_i2b dX10_read_47 ?_
    refine P_sab dX10_read_48 h (fun M1 h => ?_)
    refine S_iinc dX10_read_49 rfl rfl rfl ?_
    change Sem g d YX10_read 52 [(1, x0), (1, x1), (0, x2), (0, x3 + 1)] [] M1 o
    refine S_goto (tgt := 24) dX10_read_52 rfl ?_
    exact c0 (x3 + 1, M1) (some_P (P := fun r => P r) h hz)
theorem sl_X10_read_24 {g : GG} {d : Nat} (hD : 1 ≤ d) {x0 x1 x2 x3 : Int} {M : MM} {o : AV × MM} {P : (MM) → Prop} (r0 : ∀ r : MM, P r → o = ((9, 0), r)) {z : MM} (h : l_X10_read_24 x0 x1 x2 x3 M = some z) (hz : P z) : Sem g d YX10_read 24 [(1, x0), (1, x1), (0, x2), (0, x3)] [] M o := by
  refine lp_sound (S := fun s : Int × MM => Sem g d YX10_read 24 [(1, x0), (1, x1), (0, x2), (0, s.1)] [] s.2 o) (P := P) ?_ FU (x3, M) z h hz
  intro s x hx hP
  exact s_X10_read_24 hD (P := Sum.elim (fun s : Int × MM => Sem g d YX10_read 24 [(1, x0), (1, x1), (0, x2), (0, s.1)] [] s.2 o) P) (fun s h => h) (fun s h => r0 s h) hx hP
theorem s_X10_read_0 {g : GG} {d : Nat} (hD : 1 ≤ d) {x0 x1 x2 : Int} {M : MM} {o : AV × MM} {P : (MM) → Prop} (r0 : ∀ r : MM, P r → o = ((9, 0), r)) {z : MM} (h : f_X10_read x0 x1 x2 M = some z) (hz : P z) : Sem g d YX10_read 0 [(1, x0), (1, x1), (0, x2), (9, 0)] [] M o := by
  delta f_X10_read at h
  refine S_aload_n (i := 0) dX10_read_0 rfl rfl ?_
  refine S_aload_n (i := 1) dX10_read_1 rfl rfl ?_
  refine S_iload_n (i := 2) dX10_read_2 rfl rfl ?_
  refine S_iconst dX10_read_3 rfl ?_
  refine P_invVp 0 [(0, x2), (0, 1)] [(1, x0)] CVX4_get MLX10_58 dX10_read_4 rfl rfl rfl rfl rfl (by omega) h (fun r h => F_X4_get (by omega) h) (fun v1 h => ?_)
  refine P_pfi FLX10_29 FPX10_29 rfl dX10_read_7 h (fun M1 h => ?_)
  refine S_aload_n (i := 0) dX10_read_10 rfl rfl ?_
  refine S_aload_n (i := 1) dX10_read_11 rfl rfl ?_
  refine S_iload_n (i := 2) dX10_read_12 rfl rfl ?_
  refine S_iconst dX10_read_13 rfl ?_
  refine S_iadd dX10_read_14 ?_
  refine S_iconst dX10_read_15 rfl ?_
  refine P_invVp 0 [(0, x2 + 1), (0, 2)] [(1, x0)] CVX4_get MLX10_58 dX10_read_16 rfl rfl rfl rfl rfl (by omega) h (fun r h => F_X4_get (by omega) h) (fun v2 h => ?_)
  refine P_pfi FLX10_33 FPX10_33 rfl dX10_read_19 h (fun M2 h => ?_)
  refine S_iconst dX10_read_22 rfl ?_
  refine S_istore_n (i := 3) dX10_read_23 rfl (Nat.le_of_ble_eq_true rfl) rfl rfl ?_
  change Sem g d YX10_read 24 [(1, x0), (1, x1), (0, x2), (0, 0)] [] M2 o
  exact sl_X10_read_24 hD r0 h hz
theorem F_X10_read {g : GG} {d : Nat} (hD : 1 ≤ d) {x0 x1 x2 : Int} {M : MM} {r : MM} (h : f_X10_read x0 x1 x2 M = some r) : Sem g d YX10_read 0 (ini YX10_read [(1, x0), (1, x1), (0, x2)]) [] M ((9, 0), r) := by
  change Sem g d YX10_read 0 [(1, x0), (1, x1), (0, x2), (9, 0)] [] M ((9, 0), r)
  exact s_X10_read_0 hD (P := fun x => x = r) (fun q e => by rw [e]) h rfl
/-! PeerSearch$Asking.failed(LPeerSearch$Work;)V -/
theorem dX31_failed_0 : decode cX31_failed 0 = .ok (.aload_n 1, 1) := by decide +kernel
theorem dX31_failed_1 : decode cX31_failed 1 = .ok (.iconst 2, 1) := by decide +kernel
theorem dX31_failed_2 : decode cX31_failed 2 = .ok (.invokevirtual 266, 3) := by decide +kernel
theorem dX31_failed_5 : decode cX31_failed 5 = .ok (.return_, 1) := by decide +kernel
def f_X31_failed (x0 x1 : Int) (M : MM) : Option (MM) :=
  ck 11 x1 M <| (f_X11_end x1 2 M).bind fun M1 =>
  some M1
theorem s_X31_failed_0 {g : GG} {d : Nat} (hD : 1 ≤ d) {x0 x1 : Int} {M : MM} {o : AV × MM} {P : (MM) → Prop} (r0 : ∀ r : MM, P r → o = ((9, 0), r)) {z : MM} (h : f_X31_failed x0 x1 M = some z) (hz : P z) : Sem g d YX31_failed 0 [(1, x0), (1, x1)] [] M o := by
  delta f_X31_failed at h
  refine S_aload_n (i := 1) dX31_failed_0 rfl rfl ?_
  refine S_iconst dX31_failed_1 rfl ?_
  refine P_invVm' [(0, 2)] [] CVX11_end MLX31_266 dX31_failed_2 rfl rfl rfl rfl (by omega) h (fun r h => F_X11_end (by omega) h) (fun M1 h => ?_)
  obtain rfl := r0 _ (some_P (P := fun r => P r) h hz)
  exact S_return dX31_failed_5 rfl
theorem F_X31_failed {g : GG} {d : Nat} (hD : 1 ≤ d) {x0 x1 : Int} {M : MM} {r : MM} (h : f_X31_failed x0 x1 M = some r) : Sem g d YX31_failed 0 (ini YX31_failed [(1, x0), (1, x1)]) [] M ((9, 0), r) := by
  change Sem g d YX31_failed 0 [(1, x0), (1, x1)] [] M ((9, 0), r)
  exact s_X31_failed_0 hD (P := fun x => x = r) (fun q e => by rw [e]) h rfl
/-! PeerSearch$Packet.getKey(ILPeerSearch$Key;)V -/
theorem dX4_getKey_0 : decode cX4_getKey 0 = .ok (.iconst 0, 1) := by decide +kernel
theorem dX4_getKey_1 : decode cX4_getKey 1 = .ok (.istore_n 3, 1) := by decide +kernel
theorem dX4_getKey_2 : decode cX4_getKey 2 = .ok (.iload_n 3, 1) := by decide +kernel
theorem dX4_getKey_3 : decode cX4_getKey 3 = .ok (.iconst 5, 1) := by decide +kernel
theorem dX4_getKey_4 : decode cX4_getKey 4 = .ok (.if_icmp .ge 25, 3) := by decide +kernel
theorem dX4_getKey_7 : decode cX4_getKey 7 = .ok (.aload_n 2, 1) := by decide +kernel
theorem dX4_getKey_8 : decode cX4_getKey 8 = .ok (.getfield 29, 3) := by decide +kernel
theorem dX4_getKey_11 : decode cX4_getKey 11 = .ok (.iload_n 3, 1) := by decide +kernel
theorem dX4_getKey_12 : decode cX4_getKey 12 = .ok (.aload_n 0, 1) := by decide +kernel
theorem dX4_getKey_13 : decode cX4_getKey 13 = .ok (.iload_n 1, 1) := by decide +kernel
theorem dX4_getKey_14 : decode cX4_getKey 14 = .ok (.iconst 4, 1) := by decide +kernel
theorem dX4_getKey_15 : decode cX4_getKey 15 = .ok (.iload_n 3, 1) := by decide +kernel
theorem dX4_getKey_16 : decode cX4_getKey 16 = .ok (.imul, 1) := by decide +kernel
theorem dX4_getKey_17 : decode cX4_getKey 17 = .ok (.iadd, 1) := by decide +kernel
theorem dX4_getKey_18 : decode cX4_getKey 18 = .ok (.iconst 4, 1) := by decide +kernel
theorem dX4_getKey_19 : decode cX4_getKey 19 = .ok (.invokevirtual 33, 3) := by decide +kernel
theorem dX4_getKey_22 : decode cX4_getKey 22 = .ok (.iastore, 1) := by decide +kernel
theorem dX4_getKey_23 : decode cX4_getKey 23 = .ok (.iinc 3 1, 3) := by decide +kernel
theorem dX4_getKey_26 : decode cX4_getKey 26 = .ok (.goto (-24), 3) := by decide +kernel
theorem dX4_getKey_29 : decode cX4_getKey 29 = .ok (.return_, 1) := by decide +kernel
def b_X4_getKey_2 (x0 x1 x2 x3 : Int) (M : MM) : Option ((Int × MM) ⊕ (MM)) :=
  if w32 x3 < w32 5 then
    (gfr 3 0 x2 M).bind fun v1 =>
    ck 4 x0 M <| (f_X4_get x0 (x1 + (4 * x3)) 4 M).bind fun v2 =>
    (sai v1 x3 v2 M).bind fun M1 =>
    cnt (x3 + 1, M1)
  else
    xit (some M)
def l_X4_getKey_2 (x0 x1 x2 x3 : Int) (M : MM) : Option (MM) := lpN (fun s : Int × MM => b_X4_getKey_2 x0 x1 x2 s.1 s.2) FU (x3, M)
def f_X4_getKey (x0 x1 x2 : Int) (M : MM) : Option (MM) :=
  l_X4_getKey_2 x0 x1 x2 0 M
theorem s_X4_getKey_2 {g : GG} {d : Nat} (hD : 1 ≤ d) {x0 x1 x2 x3 : Int} {M : MM} {o : AV × MM} {P : ((Int × MM) ⊕ (MM)) → Prop} (c0 : ∀ s : Int × MM, P (.inl s) → Sem g d YX4_getKey 2 [(1, x0), (0, x1), (1, x2), (0, s.1)] [] s.2 o) (r0 : ∀ r : MM, P (.inr r) → o = ((9, 0), r)) {z : (Int × MM) ⊕ (MM)} (h : b_X4_getKey_2 x0 x1 x2 x3 M = some z) (hz : P z) : Sem g d YX4_getKey 2 [(1, x0), (0, x1), (1, x2), (0, x3)] [] M o := by
  delta b_X4_getKey_2 at h
  refine S_iload_n (i := 3) dX4_getKey_2 rfl rfl ?_
  refine S_iconst dX4_getKey_3 rfl ?_
  refine P_icmp_ge (tgt := 29) dX4_getKey_4 rfl h (fun h => ?_) (fun h => ?_)
  · obtain ⟨z0, h, hz⟩ := xit_some' (P := fun r => P r) h hz
    obtain rfl := r0 _ (some_P (P := fun r => P (.inr r)) h hz)
    exact S_return dX4_getKey_29 rfl
  · refine S_aload_n (i := 2) dX4_getKey_7 rfl rfl ?_
    refine P_gfr FLX4_29 rfl dX4_getKey_8 h (fun v1 h => ?_)
    refine S_iload_n (i := 3) dX4_getKey_11 rfl rfl ?_
    refine S_aload_n (i := 0) dX4_getKey_12 rfl rfl ?_
    refine S_iload_n (i := 1) dX4_getKey_13 rfl rfl ?_
    refine S_iconst dX4_getKey_14 rfl ?_
    refine S_iload_n (i := 3) dX4_getKey_15 rfl rfl ?_
    refine S_imul dX4_getKey_16 ?_
    refine S_iadd dX4_getKey_17 ?_
    refine S_iconst dX4_getKey_18 rfl ?_
    refine P_invVp 0 [(0, x1 + (4 * x3)), (0, 4)] [(0, x3), (1, v1)] CVX4_get MLX4_33 dX4_getKey_19 rfl rfl rfl rfl rfl (by omega) h (fun r h => F_X4_get (by omega) h) (fun v2 h => ?_)
    refine P_sai dX4_getKey_22 h (fun M1 h => ?_)
    refine S_iinc dX4_getKey_23 rfl rfl rfl ?_
    change Sem g d YX4_getKey 26 [(1, x0), (0, x1), (1, x2), (0, x3 + 1)] [] M1 o
    refine S_goto (tgt := 2) dX4_getKey_26 rfl ?_
    exact c0 (x3 + 1, M1) (some_P (P := fun r => P r) h hz)
theorem sl_X4_getKey_2 {g : GG} {d : Nat} (hD : 1 ≤ d) {x0 x1 x2 x3 : Int} {M : MM} {o : AV × MM} {P : (MM) → Prop} (r0 : ∀ r : MM, P r → o = ((9, 0), r)) {z : MM} (h : l_X4_getKey_2 x0 x1 x2 x3 M = some z) (hz : P z) : Sem g d YX4_getKey 2 [(1, x0), (0, x1), (1, x2), (0, x3)] [] M o := by
  refine lp_sound (S := fun s : Int × MM => Sem g d YX4_getKey 2 [(1, x0), (0, x1), (1, x2), (0, s.1)] [] s.2 o) (P := P) ?_ FU (x3, M) z h hz
  intro s x hx hP
  exact s_X4_getKey_2 hD (P := Sum.elim (fun s : Int × MM => Sem g d YX4_getKey 2 [(1, x0), (0, x1), (1, x2), (0, s.1)] [] s.2 o) P) (fun s h => h) (fun s h => r0 s h) hx hP
theorem s_X4_getKey_0 {g : GG} {d : Nat} (hD : 1 ≤ d) {x0 x1 x2 : Int} {M : MM} {o : AV × MM} {P : (MM) → Prop} (r0 : ∀ r : MM, P r → o = ((9, 0), r)) {z : MM} (h : f_X4_getKey x0 x1 x2 M = some z) (hz : P z) : Sem g d YX4_getKey 0 [(1, x0), (0, x1), (1, x2), (9, 0)] [] M o := by
  delta f_X4_getKey at h
  refine S_iconst dX4_getKey_0 rfl ?_
  refine S_istore_n (i := 3) dX4_getKey_1 rfl (Nat.le_of_ble_eq_true rfl) rfl rfl ?_
  change Sem g d YX4_getKey 2 [(1, x0), (0, x1), (1, x2), (0, 0)] [] M o
  exact sl_X4_getKey_2 hD r0 h hz
theorem F_X4_getKey {g : GG} {d : Nat} (hD : 1 ≤ d) {x0 x1 x2 : Int} {M : MM} {r : MM} (h : f_X4_getKey x0 x1 x2 M = some r) : Sem g d YX4_getKey 0 (ini YX4_getKey [(1, x0), (0, x1), (1, x2)]) [] M ((9, 0), r) := by
  change Sem g d YX4_getKey 0 [(1, x0), (0, x1), (1, x2), (9, 0)] [] M ((9, 0), r)
  exact s_X4_getKey_0 hD (P := fun x => x = r) (fun q e => by rw [e]) h rfl
/-! PeerSearch$Packet.number()I -/
theorem dX4_number_0 : decode cX4_number 0 = .ok (.aload_n 0, 1) := by decide +kernel
theorem dX4_number_1 : decode cX4_number 1 = .ok (.iconst 1, 1) := by decide +kernel
theorem dX4_number_2 : decode cX4_number 2 = .ok (.iconst 4, 1) := by decide +kernel
theorem dX4_number_3 : decode cX4_number 3 = .ok (.invokevirtual 33, 3) := by decide +kernel
theorem dX4_number_6 : decode cX4_number 6 = .ok (.ireturn, 1) := by decide +kernel
def f_X4_number (x0 : Int) (M : MM) : Option (Int) :=
  ck 4 x0 M <| (f_X4_get x0 1 4 M).bind fun v1 =>
  some v1
theorem s_X4_number_0 {g : GG} {d : Nat} (hD : 1 ≤ d) {x0 : Int} {M : MM} {o : AV × MM} {P : (Int) → Prop} (r0 : ∀ r : Int, P r → o = ((0, r), M)) {z : Int} (h : f_X4_number x0 M = some z) (hz : P z) : Sem g d YX4_number 0 [(1, x0)] [] M o := by
  delta f_X4_number at h
  refine S_aload_n (i := 0) dX4_number_0 rfl rfl ?_
  refine S_iconst dX4_number_1 rfl ?_
  refine S_iconst dX4_number_2 rfl ?_
  refine P_invVp 0 [(0, 1), (0, 4)] [] CVX4_get MLX4_33 dX4_number_3 rfl rfl rfl rfl rfl (by omega) h (fun r h => F_X4_get (by omega) h) (fun v1 h => ?_)
  obtain rfl := r0 _ (some_P (P := fun r => P r) h hz)
  exact P_ret dX4_number_6 rfl (Or.inl rfl)
theorem F_X4_number {g : GG} {d : Nat} (hD : 1 ≤ d) {x0 : Int} {M : MM} {r : Int} (h : f_X4_number x0 M = some r) : Sem g d YX4_number 0 (ini YX4_number [(1, x0)]) [] M ((0, r), M) := by
  change Sem g d YX4_number 0 [(1, x0)] [] M ((0, r), M)
  exact s_X4_number_0 hD (P := fun x => x = r) (fun q e => by rw [e]) h rfl
/-! PeerSearch$Packet.type()I -/
theorem dX4_type_0 : decode cX4_type 0 = .ok (.aload_n 0, 1) := by decide +kernel
theorem dX4_type_1 : decode cX4_type 1 = .ok (.iconst 0, 1) := by decide +kernel
theorem dX4_type_2 : decode cX4_type 2 = .ok (.iconst 1, 1) := by decide +kernel
theorem dX4_type_3 : decode cX4_type 3 = .ok (.invokevirtual 33, 3) := by decide +kernel
theorem dX4_type_6 : decode cX4_type 6 = .ok (.ireturn, 1) := by decide +kernel
def f_X4_type (x0 : Int) (M : MM) : Option (Int) :=
  ck 4 x0 M <| (f_X4_get x0 0 1 M).bind fun v1 =>
  some v1
theorem s_X4_type_0 {g : GG} {d : Nat} (hD : 1 ≤ d) {x0 : Int} {M : MM} {o : AV × MM} {P : (Int) → Prop} (r0 : ∀ r : Int, P r → o = ((0, r), M)) {z : Int} (h : f_X4_type x0 M = some z) (hz : P z) : Sem g d YX4_type 0 [(1, x0)] [] M o := by
  delta f_X4_type at h
  refine S_aload_n (i := 0) dX4_type_0 rfl rfl ?_
  refine S_iconst dX4_type_1 rfl ?_
  refine S_iconst dX4_type_2 rfl ?_
  refine P_invVp 0 [(0, 0), (0, 1)] [] CVX4_get MLX4_33 dX4_type_3 rfl rfl rfl rfl rfl (by omega) h (fun r h => F_X4_get (by omega) h) (fun v1 h => ?_)
  obtain rfl := r0 _ (some_P (P := fun r => P r) h hz)
  exact P_ret dX4_type_6 rfl (Or.inl rfl)
theorem F_X4_type {g : GG} {d : Nat} (hD : 1 ≤ d) {x0 : Int} {M : MM} {r : Int} (h : f_X4_type x0 M = some r) : Sem g d YX4_type 0 (ini YX4_type [(1, x0)]) [] M ((0, r), M) := by
  change Sem g d YX4_type 0 [(1, x0)] [] M ((0, r), M)
  exact s_X4_type_0 hD (P := fun x => x = r) (fun q e => by rw [e]) h rfl
/-! PeerSearch$Filter.bit(I)I -/
theorem dX10_bit_0 : decode cX10_bit 0 = .ok (.aload_n 0, 1) := by decide +kernel
theorem dX10_bit_1 : decode cX10_bit 1 = .ok (.getfield 21, 3) := by decide +kernel
theorem dX10_bit_4 : decode cX10_bit 4 = .ok (.getfield 42, 3) := by decide +kernel
theorem dX10_bit_7 : decode cX10_bit 7 = .ok (.iconst 0, 1) := by decide +kernel
theorem dX10_bit_8 : decode cX10_bit 8 = .ok (.iaload, 1) := by decide +kernel
theorem dX10_bit_9 : decode cX10_bit 9 = .ok (.i2l, 1) := by decide +kernel
theorem dX10_bit_10 : decode cX10_bit 10 = .ok (.ldc2_w 46, 3) := by decide +kernel
theorem dX10_bit_13 : decode cX10_bit 13 = .ok (.land, 1) := by decide +kernel
theorem dX10_bit_14 : decode cX10_bit 14 = .ok (.lstore_n 2, 1) := by decide +kernel
theorem dX10_bit_15 : decode cX10_bit 15 = .ok (.aload_n 0, 1) := by decide +kernel
theorem dX10_bit_16 : decode cX10_bit 16 = .ok (.getfield 21, 3) := by decide +kernel
theorem dX10_bit_19 : decode cX10_bit 19 = .ok (.getfield 42, 3) := by decide +kernel
theorem dX10_bit_22 : decode cX10_bit 22 = .ok (.iconst 1, 1) := by decide +kernel
theorem dX10_bit_23 : decode cX10_bit 23 = .ok (.iaload, 1) := by decide +kernel
theorem dX10_bit_24 : decode cX10_bit 24 = .ok (.i2l, 1) := by decide +kernel
theorem dX10_bit_25 : decode cX10_bit 25 = .ok (.ldc2_w 46, 3) := by decide +kernel
theorem dX10_bit_28 : decode cX10_bit 28 = .ok (.land, 1) := by decide +kernel
theorem dX10_bit_29 : decode cX10_bit 29 = .ok (.lstore 4, 2) := by decide +kernel
theorem dX10_bit_31 : decode cX10_bit 31 = .ok (.lload_n 2, 1) := by decide +kernel
theorem dX10_bit_32 : decode cX10_bit 32 = .ok (.iload_n 1, 1) := by decide +kernel
theorem dX10_bit_33 : decode cX10_bit 33 = .ok (.i2l, 1) := by decide +kernel
theorem dX10_bit_34 : decode cX10_bit 34 = .ok (.lload 4, 2) := by decide +kernel
theorem dX10_bit_36 : decode cX10_bit 36 = .ok (.lmul, 1) := by decide +kernel
theorem dX10_bit_37 : decode cX10_bit 37 = .ok (.ladd, 1) := by decide +kernel
theorem dX10_bit_38 : decode cX10_bit 38 = .ok (.ldc2_w 48, 3) := by decide +kernel
theorem dX10_bit_41 : decode cX10_bit 41 = .ok (.aload_n 0, 1) := by decide +kernel
theorem dX10_bit_42 : decode cX10_bit 42 = .ok (.getfield 33, 3) := by decide +kernel
theorem dX10_bit_45 : decode cX10_bit 45 = .ok (.i2l, 1) := by decide +kernel
theorem dX10_bit_46 : decode cX10_bit 46 = .ok (.lmul, 1) := by decide +kernel
theorem dX10_bit_47 : decode cX10_bit 47 = .ok (.lrem, 1) := by decide +kernel
theorem dX10_bit_48 : decode cX10_bit 48 = .ok (.l2i, 1) := by decide +kernel
theorem dX10_bit_49 : decode cX10_bit 49 = .ok (.ireturn, 1) := by decide +kernel
def f_X10_bit (x0 x1 : Int) (M : MM) : Option (Int) :=
  (gfr 10 5 x0 M).bind fun v1 =>
  (gfr 3 0 v1 M).bind fun v2 =>
  (lai v2 0 M).bind fun v3 =>
  (gfr 10 5 x0 M).bind fun v4 =>
  (gfr 3 0 v4 M).bind fun v5 =>
  (lai v5 1 M).bind fun v6 =>
  (gfi 10 1 x0 M).bind fun v7 =>
  (rml ((lnd (w32 v3) 4294967295) + ((w32 x1) * (lnd (w32 v6) 4294967295))) (8 * (w32 v7))).bind fun v8 =>
  some (lcv v8)
theorem s_X10_bit_0 {g : GG} {d : Nat} (hD : 0 ≤ d) {x0 x1 : Int} {M : MM} {o : AV × MM} {P : (Int) → Prop} (r0 : ∀ r : Int, P r → o = ((0, r), M)) {z : Int} (h : f_X10_bit x0 x1 M = some z) (hz : P z) : Sem g d YX10_bit 0 [(1, x0), (0, x1), (9, 0), (9, 0), (9, 0), (9, 0)] [] M o := by
  delta f_X10_bit at h
  refine S_aload_n (i := 0) dX10_bit_0 rfl rfl ?_
  refine P_gfr FLX10_21 rfl dX10_bit_1 h (fun v1 h => ?_)
  refine P_gfr FLX10_42 rfl dX10_bit_4 h (fun v2 h => ?_)
  refine S_iconst dX10_bit_7 rfl ?_
  refine P_lai dX10_bit_8 h (fun v3 h => ?_)
  refine S_i2l dX10_bit_9 ?_
  refine S_ldc2 (z := 4294967295) kX10_46 dX10_bit_10 ?_
  refine S_land dX10_bit_13 ?_
  refine S_lstore (i := 2) (Or.inl ⟨2, rfl, rfl, dX10_bit_14⟩) (Nat.le_of_ble_eq_true rfl) rfl rfl rfl ?_
  change Sem g d YX10_bit 15 [(1, x0), (0, x1), (2, lnd (w32 v3) 4294967295), (9, 0), (9, 0), (9, 0)] [] M o
  refine S_aload_n (i := 0) dX10_bit_15 rfl rfl ?_
  refine P_gfr FLX10_21 rfl dX10_bit_16 h (fun v4 h => ?_)
  refine P_gfr FLX10_42 rfl dX10_bit_19 h (fun v5 h => ?_)
  refine S_iconst dX10_bit_22 rfl ?_
  refine P_lai dX10_bit_23 h (fun v6 h => ?_)
  refine S_i2l dX10_bit_24 ?_
  refine S_ldc2 (z := 4294967295) kX10_46 dX10_bit_25 ?_
  refine S_land dX10_bit_28 ?_
  refine S_lstore (i := 4) (Or.inr ⟨rfl, dX10_bit_29⟩) (Nat.le_of_ble_eq_true rfl) rfl rfl rfl ?_
  change Sem g d YX10_bit 31 [(1, x0), (0, x1), (2, lnd (w32 v3) 4294967295), (9, 0), (2, lnd (w32 v6) 4294967295), (9, 0)] [] M o
  refine S_lload_n (i := 2) dX10_bit_31 rfl rfl ?_
  refine S_iload_n (i := 1) dX10_bit_32 rfl rfl ?_
  refine S_i2l dX10_bit_33 ?_
  refine S_lload dX10_bit_34 rfl ?_
  refine S_lmul dX10_bit_36 ?_
  refine S_ladd dX10_bit_37 ?_
  refine S_ldc2 (z := 8) kX10_48 dX10_bit_38 ?_
  refine S_aload_n (i := 0) dX10_bit_41 rfl rfl ?_
  refine P_gfi FLX10_33 rfl dX10_bit_42 h (fun v7 h => ?_)
  refine S_i2l dX10_bit_45 ?_
  refine S_lmul dX10_bit_46 ?_
  refine P_rml dX10_bit_47 h (fun v8 h => ?_)
  refine S_l2i dX10_bit_48 ?_
  obtain rfl := r0 _ (some_P (P := fun r => P r) h hz)
  exact P_ret dX10_bit_49 rfl (Or.inl rfl)
theorem F_X10_bit {g : GG} {d : Nat} (hD : 0 ≤ d) {x0 x1 : Int} {M : MM} {r : Int} (h : f_X10_bit x0 x1 M = some r) : Sem g d YX10_bit 0 (ini YX10_bit [(1, x0), (0, x1)]) [] M ((0, r), M) := by
  change Sem g d YX10_bit 0 [(1, x0), (0, x1), (9, 0), (9, 0), (9, 0), (9, 0)] [] M ((0, r), M)
  exact s_X10_bit_0 hD (P := fun x => x = r) (fun q e => by rw [e]) h rfl
