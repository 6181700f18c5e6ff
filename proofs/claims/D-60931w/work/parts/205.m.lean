set_option maxRecDepth 100000
/-! PeerSearch$Row.add(LPeerSearch$Contact;)V -/
theorem dX22_add_0 : decode cX22_add 0 = .ok (.aload_n 0, 1) := by decide +kernel
theorem dX22_add_1 : decode cX22_add 1 = .ok (.getfield 11, 3) := by decide +kernel
theorem dX22_add_4 : decode cX22_add 4 = .ok (.aload_n 0, 1) := by decide +kernel
theorem dX22_add_5 : decode cX22_add 5 = .ok (.getfield 17, 3) := by decide +kernel
theorem dX22_add_8 : decode cX22_add 8 = .ok (.aload_n 1, 1) := by decide +kernel
theorem dX22_add_9 : decode cX22_add 9 = .ok (.aastore, 1) := by decide +kernel
theorem dX22_add_10 : decode cX22_add 10 = .ok (.aload_n 0, 1) := by decide +kernel
theorem dX22_add_11 : decode cX22_add 11 = .ok (.dup, 1) := by decide +kernel
theorem dX22_add_12 : decode cX22_add 12 = .ok (.getfield 17, 3) := by decide +kernel
theorem dX22_add_15 : decode cX22_add 15 = .ok (.iconst 1, 1) := by decide +kernel
theorem dX22_add_16 : decode cX22_add 16 = .ok (.iadd, 1) := by decide +kernel
theorem dX22_add_17 : decode cX22_add 17 = .ok (.putfield 17, 3) := by decide +kernel
theorem dX22_add_20 : decode cX22_add 20 = .ok (.return_, 1) := by decide +kernel
def f_X22_add (x0 x1 : Int) (M : MM) : Option (MM) :=
  (gfr 22 0 x0 M).bind fun v1 =>
  (gfi 22 1 x0 M).bind fun v2 =>
  (sar 6 v1 v2 x1 M).bind fun M1 =>
  (gfi 22 1 x0 M1).bind fun v3 =>
  (pfi 22 1 x0 (v3 + 1) M1).bind fun M2 =>
  some M2
theorem s_X22_add_0 {g : GG} {d : Nat} (hD : 0 ≤ d) {x0 x1 : Int} {M : MM} {o : AV × MM} {P : (MM) → Prop} (r0 : ∀ r : MM, P r → o = ((9, 0), r)) {z : MM} (h : f_X22_add x0 x1 M = some z) (hz : P z) : Sem g d YX22_add 0 [(1, x0), (1, x1)] [] M o := by
  delta f_X22_add at h
  refine S_aload_n (i := 0) dX22_add_0 rfl rfl ?_
  refine P_gfr FLX22_11 rfl dX22_add_1 h (fun v1 h => ?_)
  refine S_aload_n (i := 0) dX22_add_4 rfl rfl ?_
  refine P_gfi FLX22_17 rfl dX22_add_5 h (fun v2 h => ?_)
  refine S_aload_n (i := 1) dX22_add_8 rfl rfl ?_
  refine P_sar (t := 6) ⟨by decide, by decide⟩ dX22_add_9 h (fun M1 h => ?_)
  refine S_aload_n (i := 0) dX22_add_10 rfl rfl ?_
  refine S_dup dX22_add_11 (Nat.le_of_ble_eq_true rfl) ?_
  refine P_gfi FLX22_17 rfl dX22_add_12 h (fun v3 h => ?_)
  refine S_iconst dX22_add_15 rfl ?_
  refine S_iadd dX22_add_16 ?_
  refine P_pfi FLX22_17 FPX22_17 rfl dX22_add_17 h (fun M2 h => ?_)
  obtain rfl := r0 _ (some_P (P := fun r => P r) h hz)
  exact S_return dX22_add_20 rfl
theorem F_X22_add {g : GG} {d : Nat} (hD : 0 ≤ d) {x0 x1 : Int} {M : MM} {r : MM} (h : f_X22_add x0 x1 M = some r) : Sem g d YX22_add 0 (ini YX22_add [(1, x0), (1, x1)]) [] M ((9, 0), r) := by
  change Sem g d YX22_add 0 [(1, x0), (1, x1)] [] M ((9, 0), r)
  exact s_X22_add_0 hD (P := fun x => x = r) (fun q e => by rw [e]) h rfl
/-! PeerSearch$Row.find(LPeerSearch$Key;)I -/
theorem dX22_find_0 : decode cX22_find 0 = .ok (.iconst 0, 1) := by decide +kernel
theorem dX22_find_1 : decode cX22_find 1 = .ok (.istore_n 2, 1) := by decide +kernel
theorem dX22_find_2 : decode cX22_find 2 = .ok (.iload_n 2, 1) := by decide +kernel
theorem dX22_find_3 : decode cX22_find 3 = .ok (.aload_n 0, 1) := by decide +kernel
theorem dX22_find_4 : decode cX22_find 4 = .ok (.getfield 17, 3) := by decide +kernel
theorem dX22_find_7 : decode cX22_find 7 = .ok (.if_icmp .ge 27, 3) := by decide +kernel
theorem dX22_find_10 : decode cX22_find 10 = .ok (.aload_n 0, 1) := by decide +kernel
theorem dX22_find_11 : decode cX22_find 11 = .ok (.getfield 11, 3) := by decide +kernel
theorem dX22_find_14 : decode cX22_find 14 = .ok (.iload_n 2, 1) := by decide +kernel
theorem dX22_find_15 : decode cX22_find 15 = .ok (.aaload, 1) := by decide +kernel
theorem dX22_find_16 : decode cX22_find 16 = .ok (.getfield 21, 3) := by decide +kernel
theorem dX22_find_19 : decode cX22_find 19 = .ok (.aload_n 1, 1) := by decide +kernel
theorem dX22_find_20 : decode cX22_find 20 = .ok (.invokevirtual 25, 3) := by decide +kernel
theorem dX22_find_23 : decode cX22_find 23 = .ok (.ifCond .eq 5, 3) := by decide +kernel
theorem dX22_find_26 : decode cX22_find 26 = .ok (.iload_n 2, 1) := by decide +kernel
theorem dX22_find_27 : decode cX22_find 27 = .ok (.ireturn, 1) := by decide +kernel
theorem dX22_find_28 : decode cX22_find 28 = .ok (.iinc 2 1, 3) := by decide +kernel
theorem dX22_find_31 : decode cX22_find 31 = .ok (.goto (-29), 3) := by decide +kernel
theorem dX22_find_34 : decode cX22_find 34 = .ok (.iconst (-1), 1) := by decide +kernel
theorem dX22_find_35 : decode cX22_find 35 = .ok (.ireturn, 1) := by decide +kernel
def b_X22_find_2 (x0 x1 x2 : Int) (M : MM) : Option ((Int) ⊕ (Int)) :=
  (gfi 22 1 x0 M).bind fun v1 =>
  if w32 x2 < w32 v1 then
    (gfr 22 0 x0 M).bind fun v2 =>
    (lar 6 v2 x2 M).bind fun v3 =>
    (gfr 23 0 v3 M).bind fun v4 =>
    ck 3 v4 M <| (f_X3_is v4 x1 M).bind fun v5 =>
    if w32 v5 = 0 then
      cnt (x2 + 1)
    else
      xit (some x2)
  else
    xit (some (-1))
def l_X22_find_2 (x0 x1 x2 : Int) (M : MM) : Option (Int) := lpN (fun s : Int => b_X22_find_2 x0 x1 s M) FU x2
def f_X22_find (x0 x1 : Int) (M : MM) : Option (Int) :=
  l_X22_find_2 x0 x1 0 M
theorem s_X22_find_2 {g : GG} {d : Nat} (hD : 3 ≤ d) {x0 x1 x2 : Int} {M : MM} {o : AV × MM} {P : ((Int) ⊕ (Int)) → Prop} (c0 : ∀ s : Int, P (.inl s) → Sem g d YX22_find 2 [(1, x0), (1, x1), (0, s)] [] M o) (r0 : ∀ r : Int, P (.inr r) → o = ((0, r), M)) {z : (Int) ⊕ (Int)} (h : b_X22_find_2 x0 x1 x2 M = some z) (hz : P z) : Sem g d YX22_find 2 [(1, x0), (1, x1), (0, x2)] [] M o := by
  delta b_X22_find_2 at h
  refine S_iload_n (i := 2) dX22_find_2 rfl rfl ?_
  refine S_aload_n (i := 0) dX22_find_3 rfl rfl ?_
  refine P_gfi FLX22_17 rfl dX22_find_4 h (fun v1 h => ?_)
  refine P_icmp_ge (tgt := 34) dX22_find_7 rfl h (fun h => ?_) (fun h => ?_)
  · obtain ⟨z0, h, hz⟩ := xit_some' (P := fun r => P r) h hz
    refine S_iconst dX22_find_34 rfl ?_
    obtain rfl := r0 _ (some_P (P := fun r => P (.inr r)) h hz)
    exact P_ret dX22_find_35 rfl (Or.inl rfl)
  · refine S_aload_n (i := 0) dX22_find_10 rfl rfl ?_
    refine P_gfr FLX22_11 rfl dX22_find_11 h (fun v2 h => ?_)
    refine S_iload_n (i := 2) dX22_find_14 rfl rfl ?_
    refine P_lar (t := 6) ⟨by decide, by decide⟩ dX22_find_15 h (fun v3 h => ?_)
    refine P_gfr FLX22_21 rfl dX22_find_16 h (fun v4 h => ?_)
    refine S_aload_n (i := 1) dX22_find_19 rfl rfl ?_
    refine P_invVp 0 [(1, x1)] [] CVX3_is MLX22_25 dX22_find_20 rfl rfl rfl rfl rfl (by omega) h (fun r h => F_X3_is (by omega) h) (fun v5 h => ?_)
    refine P_if_eq (tgt := 28) dX22_find_23 rfl h (fun h => ?_) (fun h => ?_)
    · refine S_iinc dX22_find_28 rfl rfl rfl ?_
      change Sem g d YX22_find 31 [(1, x0), (1, x1), (0, x2 + 1)] [] M o
      refine S_goto (tgt := 2) dX22_find_31 rfl ?_
      exact c0 (x2 + 1) (some_P (P := fun r => P r) h hz)
    · obtain ⟨z0, h, hz⟩ := xit_some' (P := fun r => P r) h hz
      refine S_iload_n (i := 2) dX22_find_26 rfl rfl ?_
      obtain rfl := r0 _ (some_P (P := fun r => P (.inr r)) h hz)
      exact P_ret dX22_find_27 rfl (Or.inl rfl)
theorem sl_X22_find_2 {g : GG} {d : Nat} (hD : 3 ≤ d) {x0 x1 x2 : Int} {M : MM} {o : AV × MM} {P : (Int) → Prop} (r0 : ∀ r : Int, P r → o = ((0, r), M)) {z : Int} (h : l_X22_find_2 x0 x1 x2 M = some z) (hz : P z) : Sem g d YX22_find 2 [(1, x0), (1, x1), (0, x2)] [] M o := by
  refine lp_sound (S := fun s : Int => Sem g d YX22_find 2 [(1, x0), (1, x1), (0, s)] [] M o) (P := P) ?_ FU x2 z h hz
  intro s x hx hP
  exact s_X22_find_2 hD (P := Sum.elim (fun s : Int => Sem g d YX22_find 2 [(1, x0), (1, x1), (0, s)] [] M o) P) (fun s h => h) (fun s h => r0 s h) hx hP
theorem s_X22_find_0 {g : GG} {d : Nat} (hD : 3 ≤ d) {x0 x1 : Int} {M : MM} {o : AV × MM} {P : (Int) → Prop} (r0 : ∀ r : Int, P r → o = ((0, r), M)) {z : Int} (h : f_X22_find x0 x1 M = some z) (hz : P z) : Sem g d YX22_find 0 [(1, x0), (1, x1), (9, 0)] [] M o := by
  delta f_X22_find at h
  refine S_iconst dX22_find_0 rfl ?_
  refine S_istore_n (i := 2) dX22_find_1 rfl (Nat.le_of_ble_eq_true rfl) rfl rfl ?_
  change Sem g d YX22_find 2 [(1, x0), (1, x1), (0, 0)] [] M o
  exact sl_X22_find_2 hD r0 h hz
theorem F_X22_find {g : GG} {d : Nat} (hD : 3 ≤ d) {x0 x1 : Int} {M : MM} {r : Int} (h : f_X22_find x0 x1 M = some r) : Sem g d YX22_find 0 (ini YX22_find [(1, x0), (1, x1)]) [] M ((0, r), M) := by
  change Sem g d YX22_find 0 [(1, x0), (1, x1), (9, 0)] [] M ((0, r), M)
  exact s_X22_find_0 hD (P := fun x => x = r) (fun q e => by rw [e]) h rfl
/-! PeerSearch$Row.isFull()Z -/
theorem dX22_isFull_0 : decode cX22_isFull 0 = .ok (.aload_n 0, 1) := by decide +kernel
theorem dX22_isFull_1 : decode cX22_isFull 1 = .ok (.getfield 17, 3) := by decide +kernel
theorem dX22_isFull_4 : decode cX22_isFull 4 = .ok (.aload_n 0, 1) := by decide +kernel
theorem dX22_isFull_5 : decode cX22_isFull 5 = .ok (.getfield 11, 3) := by decide +kernel
theorem dX22_isFull_8 : decode cX22_isFull 8 = .ok (.arraylength, 1) := by decide +kernel
theorem dX22_isFull_9 : decode cX22_isFull 9 = .ok (.if_icmp .ne 7, 3) := by decide +kernel
theorem dX22_isFull_12 : decode cX22_isFull 12 = .ok (.iconst 1, 1) := by decide +kernel
theorem dX22_isFull_13 : decode cX22_isFull 13 = .ok (.goto 4, 3) := by decide +kernel
theorem dX22_isFull_16 : decode cX22_isFull 16 = .ok (.iconst 0, 1) := by decide +kernel
theorem dX22_isFull_17 : decode cX22_isFull 17 = .ok (.ireturn, 1) := by decide +kernel
def j_X22_isFull_17 (y0 : Int) (M : MM) : Option (Int) :=
  bz y0 (some y0)
def f_X22_isFull (x0 : Int) (M : MM) : Option (Int) :=
  (gfi 22 1 x0 M).bind fun v1 =>
  (gfr 22 0 x0 M).bind fun v2 =>
  (aln 6 v2 M).bind fun v3 =>
  if w32 v1 = w32 v3 then
    j_X22_isFull_17 1 M
  else
    j_X22_isFull_17 0 M
theorem s_X22_isFull_17 {g : GG} {d : Nat} (hD : 0 ≤ d) {y0 : Int} {M : MM} {o : AV × MM} {P : (Int) → Prop} (r0 : ∀ r : Int, P r → o = ((0, r), M)) {z : Int} (h : j_X22_isFull_17 y0 M = some z) (hz : P z) : Sem g d YX22_isFull 17 [(9, 0)] [(0, y0)] M o := by
  delta j_X22_isFull_17 at h
  obtain ⟨hb, h⟩ := bz_some h
  obtain rfl := r0 _ (some_P (P := fun r => P r) h hz)
  exact P_ret dX22_isFull_17 rfl (Or.inr ⟨rfl, hb⟩)
theorem s_X22_isFull_0 {g : GG} {d : Nat} (hD : 0 ≤ d) {x0 : Int} {M : MM} {o : AV × MM} {P : (Int) → Prop} (r0 : ∀ r : Int, P r → o = ((0, r), M)) {z : Int} (h : f_X22_isFull x0 M = some z) (hz : P z) : Sem g d YX22_isFull 0 [(1, x0)] [] M o := by
  delta f_X22_isFull at h
  refine S_aload_n (i := 0) dX22_isFull_0 rfl rfl ?_
  refine P_gfi FLX22_17 rfl dX22_isFull_1 h (fun v1 h => ?_)
  refine S_aload_n (i := 0) dX22_isFull_4 rfl rfl ?_
  refine P_gfr FLX22_11 rfl dX22_isFull_5 h (fun v2 h => ?_)
  refine P_aln (t := 6) (by decide) dX22_isFull_8 h (fun v3 h => ?_)
  refine P_icmp_ne (tgt := 16) dX22_isFull_9 rfl h (fun h => ?_) (fun h => ?_)
  · refine S_iconst dX22_isFull_16 rfl ?_
    refine S_weak (ls' := [(9, 0)]) ⟨Or.inl rfl, trivial⟩ ?_
    exact s_X22_isFull_17 hD r0 h hz
  · refine S_iconst dX22_isFull_12 rfl ?_
    refine S_goto (tgt := 17) dX22_isFull_13 rfl ?_
    refine S_weak (ls' := [(9, 0)]) ⟨Or.inl rfl, trivial⟩ ?_
    exact s_X22_isFull_17 hD r0 h hz
theorem F_X22_isFull {g : GG} {d : Nat} (hD : 0 ≤ d) {x0 : Int} {M : MM} {r : Int} (h : f_X22_isFull x0 M = some r) : Sem g d YX22_isFull 0 (ini YX22_isFull [(1, x0)]) [] M ((0, r), M) := by
  change Sem g d YX22_isFull 0 [(1, x0)] [] M ((0, r), M)
  exact s_X22_isFull_0 hD (P := fun x => x = r) (fun q e => by rw [e]) h rfl
/-! PeerSearch$Row.touch(I)V -/
theorem dX22_touch_0 : decode cX22_touch 0 = .ok (.aload_n 0, 1) := by decide +kernel
theorem dX22_touch_1 : decode cX22_touch 1 = .ok (.aload_n 0, 1) := by decide +kernel
theorem dX22_touch_2 : decode cX22_touch 2 = .ok (.iload_n 1, 1) := by decide +kernel
theorem dX22_touch_3 : decode cX22_touch 3 = .ok (.invokevirtual 31, 3) := by decide +kernel
theorem dX22_touch_6 : decode cX22_touch 6 = .ok (.invokevirtual 35, 3) := by decide +kernel
theorem dX22_touch_9 : decode cX22_touch 9 = .ok (.return_, 1) := by decide +kernel
def f_X22_touch (x0 x1 : Int) (M : MM) : Option (MM) :=
  ck 22 x0 M <| (f_X22_remove x0 x1 M).bind fun r1 =>
  ck 22 x0 r1.2 <| (f_X22_add x0 r1.1 r1.2).bind fun M1 =>
  some M1
theorem s_X22_touch_0 {g : GG} {d : Nat} (hD : 1 ≤ d) {x0 x1 : Int} {M : MM} {o : AV × MM} {P : (MM) → Prop} (r0 : ∀ r : MM, P r → o = ((9, 0), r)) {z : MM} (h : f_X22_touch x0 x1 M = some z) (hz : P z) : Sem g d YX22_touch 0 [(1, x0), (0, x1)] [] M o := by
  delta f_X22_touch at h
  refine S_aload_n (i := 0) dX22_touch_0 rfl rfl ?_
  refine S_aload_n (i := 0) dX22_touch_1 rfl rfl ?_
  refine S_iload_n (i := 1) dX22_touch_2 rfl rfl ?_
  refine P_invVe 1 [(0, x1)] [(1, x0)] CVX22_remove MLX22_31 dX22_touch_3 rfl rfl rfl rfl rfl (by omega) h (fun r h => F_X22_remove (by omega) h) (fun r1 h => ?_)
  refine P_invVm' [(1, r1.1)] [] CVX22_add MLX22_35 dX22_touch_6 rfl rfl rfl rfl (by omega) h (fun r h => F_X22_add (by omega) h) (fun M1 h => ?_)
  obtain rfl := r0 _ (some_P (P := fun r => P r) h hz)
  exact S_return dX22_touch_9 rfl
theorem F_X22_touch {g : GG} {d : Nat} (hD : 1 ≤ d) {x0 x1 : Int} {M : MM} {r : MM} (h : f_X22_touch x0 x1 M = some r) : Sem g d YX22_touch 0 (ini YX22_touch [(1, x0), (0, x1)]) [] M ((9, 0), r) := by
  change Sem g d YX22_touch 0 [(1, x0), (0, x1)] [] M ((9, 0), r)
  exact s_X22_touch_0 hD (P := fun x => x = r) (fun q e => by rw [e]) h rfl
/-! PeerSearch$Table.bucketFor(I)LPeerSearch$Bucket; -/
theorem dX20_bucketFor_0 : decode cX20_bucketFor 0 = .ok (.aload_n 0, 1) := by decide +kernel
theorem dX20_bucketFor_1 : decode cX20_bucketFor 1 = .ok (.getfield 13, 3) := by decide +kernel
theorem dX20_bucketFor_4 : decode cX20_bucketFor 4 = .ok (.iload_n 1, 1) := by decide +kernel
theorem dX20_bucketFor_5 : decode cX20_bucketFor 5 = .ok (.aload_n 0, 1) := by decide +kernel
theorem dX20_bucketFor_6 : decode cX20_bucketFor 6 = .ok (.getfield 34, 3) := by decide +kernel
theorem dX20_bucketFor_9 : decode cX20_bucketFor 9 = .ok (.if_icmp .ge 7, 3) := by decide +kernel
theorem dX20_bucketFor_12 : decode cX20_bucketFor 12 = .ok (.iload_n 1, 1) := by decide +kernel
theorem dX20_bucketFor_13 : decode cX20_bucketFor 13 = .ok (.goto 9, 3) := by decide +kernel
theorem dX20_bucketFor_16 : decode cX20_bucketFor 16 = .ok (.aload_n 0, 1) := by decide +kernel
theorem dX20_bucketFor_17 : decode cX20_bucketFor 17 = .ok (.getfield 34, 3) := by decide +kernel
theorem dX20_bucketFor_20 : decode cX20_bucketFor 20 = .ok (.iconst 1, 1) := by decide +kernel
theorem dX20_bucketFor_21 : decode cX20_bucketFor 21 = .ok (.isub, 1) := by decide +kernel
theorem dX20_bucketFor_22 : decode cX20_bucketFor 22 = .ok (.aaload, 1) := by decide +kernel
theorem dX20_bucketFor_23 : decode cX20_bucketFor 23 = .ok (.areturn, 1) := by decide +kernel
def j_X20_bucketFor_22 (y0 y1 : Int) (M : MM) : Option (Int) :=
  (lar 12 y0 y1 M).bind fun v1 =>
  some v1
def f_X20_bucketFor (x0 x1 : Int) (M : MM) : Option (Int) :=
  (gfr 20 3 x0 M).bind fun v1 =>
  (gfi 20 4 x0 M).bind fun v2 =>
  if w32 x1 < w32 v2 then
    j_X20_bucketFor_22 v1 x1 M
  else
    (gfi 20 4 x0 M).bind fun v3 =>
    j_X20_bucketFor_22 v1 (v3 - 1) M
theorem s_X20_bucketFor_22 {g : GG} {d : Nat} (hD : 0 ≤ d) {y0 y1 : Int} {M : MM} {o : AV × MM} {P : (Int) → Prop} (r0 : ∀ r : Int, P r → o = ((1, r), M)) {z : Int} (h : j_X20_bucketFor_22 y0 y1 M = some z) (hz : P z) : Sem g d YX20_bucketFor 22 [(9, 0), (9, 0)] [(0, y1), (1, y0)] M o := by
  delta j_X20_bucketFor_22 at h
  refine P_lar (t := 12) ⟨by decide, by decide⟩ dX20_bucketFor_22 h (fun v1 h => ?_)
  obtain rfl := r0 _ (some_P (P := fun r => P r) h hz)
  exact S_areturn dX20_bucketFor_23 ⟨_, rfl, Or.inl ⟨_, rfl⟩⟩
theorem s_X20_bucketFor_0 {g : GG} {d : Nat} (hD : 0 ≤ d) {x0 x1 : Int} {M : MM} {o : AV × MM} {P : (Int) → Prop} (r0 : ∀ r : Int, P r → o = ((1, r), M)) {z : Int} (h : f_X20_bucketFor x0 x1 M = some z) (hz : P z) : Sem g d YX20_bucketFor 0 [(1, x0), (0, x1)] [] M o := by
  delta f_X20_bucketFor at h
  refine S_aload_n (i := 0) dX20_bucketFor_0 rfl rfl ?_
  refine P_gfr FLX20_13 rfl dX20_bucketFor_1 h (fun v1 h => ?_)
  refine S_iload_n (i := 1) dX20_bucketFor_4 rfl rfl ?_
  refine S_aload_n (i := 0) dX20_bucketFor_5 rfl rfl ?_
  refine P_gfi FLX20_34 rfl dX20_bucketFor_6 h (fun v2 h => ?_)
  refine P_icmp_ge (tgt := 16) dX20_bucketFor_9 rfl h (fun h => ?_) (fun h => ?_)
  · refine S_aload_n (i := 0) dX20_bucketFor_16 rfl rfl ?_
    refine P_gfi FLX20_34 rfl dX20_bucketFor_17 h (fun v3 h => ?_)
    refine S_iconst dX20_bucketFor_20 rfl ?_
    refine S_isub dX20_bucketFor_21 ?_
    refine S_weak (ls' := [(9, 0), (9, 0)]) ⟨Or.inl rfl, ⟨Or.inl rfl, trivial⟩⟩ ?_
    exact s_X20_bucketFor_22 hD r0 h hz
  · refine S_iload_n (i := 1) dX20_bucketFor_12 rfl rfl ?_
    refine S_goto (tgt := 22) dX20_bucketFor_13 rfl ?_
    refine S_weak (ls' := [(9, 0), (9, 0)]) ⟨Or.inl rfl, ⟨Or.inl rfl, trivial⟩⟩ ?_
    exact s_X20_bucketFor_22 hD r0 h hz
theorem F_X20_bucketFor {g : GG} {d : Nat} (hD : 0 ≤ d) {x0 x1 : Int} {M : MM} {r : Int} (h : f_X20_bucketFor x0 x1 M = some r) : Sem g d YX20_bucketFor 0 (ini YX20_bucketFor [(1, x0), (0, x1)]) [] M ((1, r), M) := by
  change Sem g d YX20_bucketFor 0 [(1, x0), (0, x1)] [] M ((1, r), M)
  exact s_X20_bucketFor_0 hD (P := fun x => x = r) (fun q e => by rw [e]) h rfl
/-! PeerSearch$Table.reserve(LPeerSearch$Bucket;ILPeerSearch$Key;I)V -/
theorem dX20_reserve_0 : decode cX20_reserve 0 = .ok (.iload_n 2, 1) := by decide +kernel
theorem dX20_reserve_1 : decode cX20_reserve 1 = .ok (.iconst (-1), 1) := by decide +kernel
theorem dX20_reserve_2 : decode cX20_reserve 2 = .ok (.if_icmp .eq 29, 3) := by decide +kernel
theorem dX20_reserve_5 : decode cX20_reserve 5 = .ok (.aload_n 1, 1) := by decide +kernel
theorem dX20_reserve_6 : decode cX20_reserve 6 = .ok (.getfield 67, 3) := by decide +kernel
theorem dX20_reserve_9 : decode cX20_reserve 9 = .ok (.getfield 74, 3) := by decide +kernel
theorem dX20_reserve_12 : decode cX20_reserve 12 = .ok (.iload_n 2, 1) := by decide +kernel
theorem dX20_reserve_13 : decode cX20_reserve 13 = .ok (.aaload, 1) := by decide +kernel
theorem dX20_reserve_14 : decode cX20_reserve 14 = .ok (.getfield 97, 3) := by decide +kernel
theorem dX20_reserve_17 : decode cX20_reserve 17 = .ok (.iload 4, 2) := by decide +kernel
theorem dX20_reserve_19 : decode cX20_reserve 19 = .ok (.if_icmp .ne 11, 3) := by decide +kernel
theorem dX20_reserve_22 : decode cX20_reserve 22 = .ok (.aload_n 1, 1) := by decide +kernel
theorem dX20_reserve_23 : decode cX20_reserve 23 = .ok (.getfield 67, 3) := by decide +kernel
theorem dX20_reserve_26 : decode cX20_reserve 26 = .ok (.iload_n 2, 1) := by decide +kernel
theorem dX20_reserve_27 : decode cX20_reserve 27 = .ok (.invokevirtual 100, 3) := by decide +kernel
theorem dX20_reserve_30 : decode cX20_reserve 30 = .ok (.return_, 1) := by decide +kernel
theorem dX20_reserve_31 : decode cX20_reserve 31 = .ok (.aload_n 1, 1) := by decide +kernel
theorem dX20_reserve_32 : decode cX20_reserve 32 = .ok (.getfield 67, 3) := by decide +kernel
theorem dX20_reserve_35 : decode cX20_reserve 35 = .ok (.invokevirtual 103, 3) := by decide +kernel
theorem dX20_reserve_38 : decode cX20_reserve 38 = .ok (.ifCond .eq 18, 3) := by decide +kernel
theorem dX20_reserve_41 : decode cX20_reserve 41 = .ok (.aload_n 0, 1) := by decide +kernel
theorem dX20_reserve_42 : decode cX20_reserve 42 = .ok (.getfield 27, 3) := by decide +kernel
theorem dX20_reserve_45 : decode cX20_reserve 45 = .ok (.aload_n 1, 1) := by decide +kernel
theorem dX20_reserve_46 : decode cX20_reserve 46 = .ok (.getfield 67, 3) := by decide +kernel
theorem dX20_reserve_49 : decode cX20_reserve 49 = .ok (.iconst 0, 1) := by decide +kernel
theorem dX20_reserve_50 : decode cX20_reserve 50 = .ok (.invokevirtual 49, 3) := by decide +kernel
theorem dX20_reserve_53 : decode cX20_reserve 53 = .ok (.invokevirtual 53, 3) := by decide +kernel
theorem dX20_reserve_56 : decode cX20_reserve 56 = .ok (.aload_n 1, 1) := by decide +kernel
theorem dX20_reserve_57 : decode cX20_reserve 57 = .ok (.getfield 67, 3) := by decide +kernel
theorem dX20_reserve_60 : decode cX20_reserve 60 = .ok (.aload_n 0, 1) := by decide +kernel
theorem dX20_reserve_61 : decode cX20_reserve 61 = .ok (.getfield 27, 3) := by decide +kernel
theorem dX20_reserve_64 : decode cX20_reserve 64 = .ok (.aload_n 3, 1) := by decide +kernel
theorem dX20_reserve_65 : decode cX20_reserve 65 = .ok (.iload 4, 2) := by decide +kernel
theorem dX20_reserve_67 : decode cX20_reserve 67 = .ok (.invokevirtual 110, 3) := by decide +kernel
theorem dX20_reserve_70 : decode cX20_reserve 70 = .ok (.invokevirtual 87, 3) := by decide +kernel
theorem dX20_reserve_73 : decode cX20_reserve 73 = .ok (.return_, 1) := by decide +kernel
def j_X20_reserve_56 (x0 x1 x3 x4 : Int) (M : MM) : Option (MM) :=
  (gfr 21 1 x1 M).bind fun v1 =>
  (gfr 20 2 x0 M).bind fun v2 =>
  ck 9 v2 M <| (f_X9_take v2 x3 x4 M).bind fun r1 =>
  ck 22 v1 r1.2 <| (f_X22_add v1 r1.1 r1.2).bind fun M1 =>
  some M1
def j_X20_reserve_30 (M : MM) : Option (MM) :=
  some M
def f_X20_reserve (x0 x1 x2 x3 x4 : Int) (M : MM) : Option (MM) :=
  if w32 x2 = w32 (-1) then
    (gfr 21 1 x1 M).bind fun v1 =>
    ck 22 v1 M <| (f_X22_isFull v1 M).bind fun v2 =>
    if w32 v2 = 0 then
      j_X20_reserve_56 x0 x1 x3 x4 M
    else
      (gfr 20 2 x0 M).bind fun v3 =>
      (gfr 21 1 x1 M).bind fun v4 =>
      ck 22 v4 M <| (f_X22_remove v4 0 M).bind fun r1 =>
      ck 9 v3 r1.2 <| (f_X9_give v3 r1.1 r1.2).bind fun M1 =>
      j_X20_reserve_56 x0 x1 x3 x4 M1
  else
    (gfr 21 1 x1 M).bind fun v5 =>
    (gfr 22 0 v5 M).bind fun v6 =>
    (lar 6 v6 x2 M).bind fun v7 =>
    (gfi 23 1 v7 M).bind fun v8 =>
    if w32 v8 = w32 x4 then
      (gfr 21 1 x1 M).bind fun v9 =>
      ck 22 v9 M <| (f_X22_touch v9 x2 M).bind fun M2 =>
      j_X20_reserve_30 M2
    else
      j_X20_reserve_30 M
theorem s_X20_reserve_56 {g : GG} {d : Nat} (hD : 4 ≤ d) {x0 x1 x3 x4 : Int} {M : MM} {o : AV × MM} {P : (MM) → Prop} (r0 : ∀ r : MM, P r → o = ((9, 0), r)) {z : MM} (h : j_X20_reserve_56 x0 x1 x3 x4 M = some z) (hz : P z) : Sem g d YX20_reserve 56 [(1, x0), (1, x1), (9, 0), (1, x3), (0, x4)] [] M o := by
  delta j_X20_reserve_56 at h
  refine S_aload_n (i := 1) dX20_reserve_56 rfl rfl ?_
  refine P_gfr FLX20_67 rfl dX20_reserve_57 h (fun v1 h => ?_)
  refine S_aload_n (i := 0) dX20_reserve_60 rfl rfl ?_
  refine P_gfr FLX20_27 rfl dX20_reserve_61 h (fun v2 h => ?_)
  refine S_aload_n (i := 3) dX20_reserve_64 rfl rfl ?_
  refine S_iload dX20_reserve_65 rfl ?_
  refine P_invVe 1 [(1, x3), (0, x4)] [(1, v1)] CVX9_take MLX20_110 dX20_reserve_67 rfl rfl rfl rfl rfl (by omega) h (fun r h => F_X9_take (by omega) h) (fun r1 h => ?_)
  refine P_invVm' [(1, r1.1)] [] CVX22_add MLX20_87 dX20_reserve_70 rfl rfl rfl rfl (by omega) h (fun r h => F_X22_add (by omega) h) (fun M1 h => ?_)
  obtain rfl := r0 _ (some_P (P := fun r => P r) h hz)
  exact S_return dX20_reserve_73 rfl
theorem s_X20_reserve_30 {g : GG} {d : Nat} (hD : 4 ≤ d) {M : MM} {o : AV × MM} {P : (MM) → Prop} (r0 : ∀ r : MM, P r → o = ((9, 0), r)) {z : MM} (h : j_X20_reserve_30 M = some z) (hz : P z) : Sem g d YX20_reserve 30 [(9, 0), (9, 0), (9, 0), (9, 0), (9, 0)] [] M o := by
  delta j_X20_reserve_30 at h
  obtain rfl := r0 _ (some_P (P := fun r => P r) h hz)
  exact S_return dX20_reserve_30 rfl
theorem s_X20_reserve_0 {g : GG} {d : Nat} (hD : 4 ≤ d) {x0 x1 x2 x3 x4 : Int} {M : MM} {o : AV × MM} {P : (MM) → Prop} (r0 : ∀ r : MM, P r → o = ((9, 0), r)) {z : MM} (h : f_X20_reserve x0 x1 x2 x3 x4 M = some z) (hz : P z) : Sem g d YX20_reserve 0 [(1, x0), (1, x1), (0, x2), (1, x3), (0, x4)] [] M o := by
  delta f_X20_reserve at h
  refine S_iload_n (i := 2) dX20_reserve_0 rfl rfl ?_
  refine S_iconst dX20_reserve_1 rfl ?_
  refine P_icmp_eq (tgt := 31) dX20_reserve_2 rfl h (fun h => ?_) (fun h => ?_)
  · refine S_aload_n (i := 1) dX20_reserve_31 rfl rfl ?_
    refine P_gfr FLX20_67 rfl dX20_reserve_32 h (fun v1 h => ?_)
    refine P_invVp 0 [] [] CVX22_isFull MLX20_103 dX20_reserve_35 rfl rfl rfl rfl rfl (by omega) h (fun r h => F_X22_isFull (by omega) h) (fun v2 h => ?_)
    refine P_if_eq (tgt := 56) dX20_reserve_38 rfl h (fun h => ?_) (fun h => ?_)
    · refine S_weak (ls' := [(1, x0), (1, x1), (9, 0), (1, x3), (0, x4)]) ⟨Or.inr rfl, ⟨Or.inr rfl, ⟨Or.inl rfl, ⟨Or.inr rfl, ⟨Or.inr rfl, trivial⟩⟩⟩⟩⟩ ?_
      exact s_X20_reserve_56 hD r0 h hz
    · refine S_aload_n (i := 0) dX20_reserve_41 rfl rfl ?_
      refine P_gfr FLX20_27 rfl dX20_reserve_42 h (fun v3 h => ?_)
      refine S_aload_n (i := 1) dX20_reserve_45 rfl rfl ?_
      refine P_gfr FLX20_67 rfl dX20_reserve_46 h (fun v4 h => ?_)
      refine S_iconst dX20_reserve_49 rfl ?_
      refine P_invVe 1 [(0, 0)] [(1, v3)] CVX22_remove MLX20_49 dX20_reserve_50 rfl rfl rfl rfl rfl (by omega) h (fun r h => F_X22_remove (by omega) h) (fun r1 h => ?_)
      refine P_invVm' [(1, r1.1)] [] CVX9_give MLX20_53 dX20_reserve_53 rfl rfl rfl rfl (by omega) h (fun r h => F_X9_give (by omega) h) (fun M1 h => ?_)
      refine S_weak (ls' := [(1, x0), (1, x1), (9, 0), (1, x3), (0, x4)]) ⟨Or.inr rfl, ⟨Or.inr rfl, ⟨Or.inl rfl, ⟨Or.inr rfl, ⟨Or.inr rfl, trivial⟩⟩⟩⟩⟩ ?_
      exact s_X20_reserve_56 hD r0 h hz
  · refine S_aload_n (i := 1) dX20_reserve_5 rfl rfl ?_
    refine P_gfr FLX20_67 rfl dX20_reserve_6 h (fun v5 h => ?_)
    refine P_gfr FLX20_74 rfl dX20_reserve_9 h (fun v6 h => ?_)
    refine S_iload_n (i := 2) dX20_reserve_12 rfl rfl ?_
    refine P_lar (t := 6) ⟨by decide, by decide⟩ dX20_reserve_13 h (fun v7 h => ?_)
    refine P_gfi FLX20_97 rfl dX20_reserve_14 h (fun v8 h => ?_)
    refine S_iload dX20_reserve_17 rfl ?_
    refine P_icmp_ne (tgt := 30) dX20_reserve_19 rfl h (fun h => ?_) (fun h => ?_)
    · refine S_weak (ls' := [(9, 0), (9, 0), (9, 0), (9, 0), (9, 0)]) ⟨Or.inl rfl, ⟨Or.inl rfl, ⟨Or.inl rfl, ⟨Or.inl rfl, ⟨Or.inl rfl, trivial⟩⟩⟩⟩⟩ ?_
      exact s_X20_reserve_30 hD r0 h hz
    · refine S_aload_n (i := 1) dX20_reserve_22 rfl rfl ?_
      refine P_gfr FLX20_67 rfl dX20_reserve_23 h (fun v9 h => ?_)
      refine S_iload_n (i := 2) dX20_reserve_26 rfl rfl ?_
      refine P_invVm' [(0, x2)] [] CVX22_touch MLX20_100 dX20_reserve_27 rfl rfl rfl rfl (by omega) h (fun r h => F_X22_touch (by omega) h) (fun M2 h => ?_)
      refine S_weak (ls' := [(9, 0), (9, 0), (9, 0), (9, 0), (9, 0)]) ⟨Or.inl rfl, ⟨Or.inl rfl, ⟨Or.inl rfl, ⟨Or.inl rfl, ⟨Or.inl rfl, trivial⟩⟩⟩⟩⟩ ?_
      exact s_X20_reserve_30 hD r0 h hz
theorem F_X20_reserve {g : GG} {d : Nat} (hD : 4 ≤ d) {x0 x1 x2 x3 x4 : Int} {M : MM} {r : MM} (h : f_X20_reserve x0 x1 x2 x3 x4 M = some r) : Sem g d YX20_reserve 0 (ini YX20_reserve [(1, x0), (1, x1), (0, x2), (1, x3), (0, x4)]) [] M ((9, 0), r) := by
  change Sem g d YX20_reserve 0 [(1, x0), (1, x1), (0, x2), (1, x3), (0, x4)] [] M ((9, 0), r)
  exact s_X20_reserve_0 hD (P := fun x => x = r) (fun q e => by rw [e]) h rfl
/-! PeerSearch$Table.split()V -/
theorem dX20_split_0 : decode cX20_split 0 = .ok (.aload_n 0, 1) := by decide +kernel
theorem dX20_split_1 : decode cX20_split 1 = .ok (.getfield 13, 3) := by decide +kernel
theorem dX20_split_4 : decode cX20_split 4 = .ok (.aload_n 0, 1) := by decide +kernel
theorem dX20_split_5 : decode cX20_split 5 = .ok (.getfield 34, 3) := by decide +kernel
theorem dX20_split_8 : decode cX20_split 8 = .ok (.iconst 1, 1) := by decide +kernel
theorem dX20_split_9 : decode cX20_split 9 = .ok (.isub, 1) := by decide +kernel
theorem dX20_split_10 : decode cX20_split 10 = .ok (.aaload, 1) := by decide +kernel
theorem dX20_split_11 : decode cX20_split 11 = .ok (.astore_n 1, 1) := by decide +kernel
theorem dX20_split_12 : decode cX20_split 12 = .ok (.aload_n 0, 1) := by decide +kernel
theorem dX20_split_13 : decode cX20_split 13 = .ok (.getfield 34, 3) := by decide +kernel
theorem dX20_split_16 : decode cX20_split 16 = .ok (.iconst 1, 1) := by decide +kernel
theorem dX20_split_17 : decode cX20_split 17 = .ok (.isub, 1) := by decide +kernel
theorem dX20_split_18 : decode cX20_split 18 = .ok (.istore_n 2, 1) := by decide +kernel
theorem dX20_split_19 : decode cX20_split 19 = .ok (.aload_n 0, 1) := by decide +kernel
theorem dX20_split_20 : decode cX20_split 20 = .ok (.invokevirtual 70, 3) := by decide +kernel
theorem dX20_split_23 : decode cX20_split 23 = .ok (.astore_n 3, 1) := by decide +kernel
theorem dX20_split_24 : decode cX20_split 24 = .ok (.iconst 0, 1) := by decide +kernel
theorem dX20_split_25 : decode cX20_split 25 = .ok (.istore 4, 2) := by decide +kernel
theorem dX20_split_27 : decode cX20_split 27 = .ok (.iload 4, 2) := by decide +kernel
theorem dX20_split_29 : decode cX20_split 29 = .ok (.aload_n 1, 1) := by decide +kernel
theorem dX20_split_30 : decode cX20_split 30 = .ok (.getfield 59, 3) := by decide +kernel
theorem dX20_split_33 : decode cX20_split 33 = .ok (.getfield 44, 3) := by decide +kernel
theorem dX20_split_36 : decode cX20_split 36 = .ok (.if_icmp .ge 55, 3) := by decide +kernel
theorem dX20_split_39 : decode cX20_split 39 = .ok (.aload_n 0, 1) := by decide +kernel
theorem dX20_split_40 : decode cX20_split 40 = .ok (.getfield 19, 3) := by decide +kernel
theorem dX20_split_43 : decode cX20_split 43 = .ok (.aload_n 1, 1) := by decide +kernel
theorem dX20_split_44 : decode cX20_split 44 = .ok (.getfield 59, 3) := by decide +kernel
theorem dX20_split_47 : decode cX20_split 47 = .ok (.getfield 74, 3) := by decide +kernel
theorem dX20_split_50 : decode cX20_split 50 = .ok (.iload 4, 2) := by decide +kernel
theorem dX20_split_52 : decode cX20_split 52 = .ok (.aaload, 1) := by decide +kernel
theorem dX20_split_53 : decode cX20_split 53 = .ok (.getfield 78, 3) := by decide +kernel
theorem dX20_split_56 : decode cX20_split 56 = .ok (.invokevirtual 83, 3) := by decide +kernel
theorem dX20_split_59 : decode cX20_split 59 = .ok (.iload_n 2, 1) := by decide +kernel
theorem dX20_split_60 : decode cX20_split 60 = .ok (.if_icmp .ne 6, 3) := by decide +kernel
theorem dX20_split_63 : decode cX20_split 63 = .ok (.goto 22, 3) := by decide +kernel
theorem dX20_split_66 : decode cX20_split 66 = .ok (.aload_n 3, 1) := by decide +kernel
theorem dX20_split_67 : decode cX20_split 67 = .ok (.getfield 59, 3) := by decide +kernel
theorem dX20_split_70 : decode cX20_split 70 = .ok (.aload_n 1, 1) := by decide +kernel
theorem dX20_split_71 : decode cX20_split 71 = .ok (.getfield 59, 3) := by decide +kernel
theorem dX20_split_74 : decode cX20_split 74 = .ok (.iload 4, 2) := by decide +kernel
theorem dX20_split_76 : decode cX20_split 76 = .ok (.invokevirtual 49, 3) := by decide +kernel
theorem dX20_split_79 : decode cX20_split 79 = .ok (.invokevirtual 87, 3) := by decide +kernel
theorem dX20_split_82 : decode cX20_split 82 = .ok (.iinc 4 (-1), 3) := by decide +kernel
theorem dX20_split_85 : decode cX20_split 85 = .ok (.iinc 4 1, 3) := by decide +kernel
theorem dX20_split_88 : decode cX20_split 88 = .ok (.goto (-61), 3) := by decide +kernel
theorem dX20_split_91 : decode cX20_split 91 = .ok (.return_, 1) := by decide +kernel
def j_X20_split_85 (x0 x1 x2 x3 x4 : Int) (M : MM) : Option ((Int × MM) ⊕ (MM)) :=
  cnt (x4 + 1, M)
def b_X20_split_27 (x0 x1 x2 x3 x4 : Int) (M : MM) : Option ((Int × MM) ⊕ (MM)) :=
  (gfr 21 0 x1 M).bind fun v1 =>
  (gfi 22 1 v1 M).bind fun v2 =>
  if w32 x4 < w32 v2 then
    (gfr 20 0 x0 M).bind fun v3 =>
    (gfr 21 0 x1 M).bind fun v4 =>
    (gfr 22 0 v4 M).bind fun v5 =>
    (lar 6 v5 x4 M).bind fun v6 =>
    (gfr 23 0 v6 M).bind fun v7 =>
    ck 3 v3 M <| (f_X3_common v3 v7 M).bind fun v8 =>
    if w32 v8 = w32 x2 then
      j_X20_split_85 x0 x1 x2 x3 x4 M
    else
      (gfr 21 0 x3 M).bind fun v9 =>
      (gfr 21 0 x1 M).bind fun v10 =>
      ck 22 v10 M <| (f_X22_remove v10 x4 M).bind fun r1 =>
      ck 22 v9 r1.2 <| (f_X22_add v9 r1.1 r1.2).bind fun M1 =>
      j_X20_split_85 x0 x1 x2 x3 (x4 + (-1)) M1
  else
    xit (some M)
def l_X20_split_27 (x0 x1 x2 x3 x4 : Int) (M : MM) : Option (MM) := lpN (fun s : Int × MM => b_X20_split_27 x0 x1 x2 x3 s.1 s.2) FU (x4, M)
def f_X20_split (x0 : Int) (M : MM) : Option (MM) :=
  (gfr 20 3 x0 M).bind fun v1 =>
  (gfi 20 4 x0 M).bind fun v2 =>
  (lar 12 v1 (v2 - 1) M).bind fun v3 =>
  (gfi 20 4 x0 M).bind fun v4 =>
  ck 20 x0 M <| (f_X20_open x0 M).bind fun r1 =>
  l_X20_split_27 x0 v3 (v4 - 1) r1.1 0 r1.2
theorem s_X20_split_85 {g : GG} {d : Nat} (hD : 4 ≤ d) {x0 x1 x2 x3 x4 : Int} {M : MM} {o : AV × MM} {P : ((Int × MM) ⊕ (MM)) → Prop} (c0 : ∀ s : Int × MM, P (.inl s) → Sem g d YX20_split 27 [(1, x0), (1, x1), (0, x2), (1, x3), (0, s.1)] [] s.2 o) (r0 : ∀ r : MM, P (.inr r) → o = ((9, 0), r)) {z : (Int × MM) ⊕ (MM)} (h : j_X20_split_85 x0 x1 x2 x3 x4 M = some z) (hz : P z) : Sem g d YX20_split 85 [(1, x0), (1, x1), (0, x2), (1, x3), (0, x4)] [] M o := by
  delta j_X20_split_85 at h
  refine S_iinc dX20_split_85 rfl rfl rfl ?_
  change Sem g d YX20_split 88 [(1, x0), (1, x1), (0, x2), (1, x3), (0, x4 + 1)] [] M o
  refine S_goto (tgt := 27) dX20_split_88 rfl ?_
  exact c0 (x4 + 1, M) (some_P (P := fun r => P r) h hz)
theorem s_X20_split_27 {g : GG} {d : Nat} (hD : 4 ≤ d) {x0 x1 x2 x3 x4 : Int} {M : MM} {o : AV × MM} {P : ((Int × MM) ⊕ (MM)) → Prop} (c0 : ∀ s : Int × MM, P (.inl s) → Sem g d YX20_split 27 [(1, x0), (1, x1), (0, x2), (1, x3), (0, s.1)] [] s.2 o) (r0 : ∀ r : MM, P (.inr r) → o = ((9, 0), r)) {z : (Int × MM) ⊕ (MM)} (h : b_X20_split_27 x0 x1 x2 x3 x4 M = some z) (hz : P z) : Sem g d YX20_split 27 [(1, x0), (1, x1), (0, x2), (1, x3), (0, x4)] [] M o := by
  delta b_X20_split_27 at h
  refine S_iload dX20_split_27 rfl ?_
  refine S_aload_n (i := 1) dX20_split_29 rfl rfl ?_
  refine P_gfr FLX20_59 rfl dX20_split_30 h (fun v1 h => ?_)
  refine P_gfi FLX20_44 rfl dX20_split_33 h (fun v2 h => ?_)
  refine P_icmp_ge (tgt := 91) dX20_split_36 rfl h (fun h => ?_) (fun h => ?_)
  · obtain ⟨z0, h, hz⟩ := xit_some' (P := fun r => P r) h hz
    obtain rfl := r0 _ (some_P (P := fun r => P (.inr r)) h hz)
    exact S_return dX20_split_91 rfl
  · refine S_aload_n (i := 0) dX20_split_39 rfl rfl ?_
    refine P_gfr FLX20_19 rfl dX20_split_40 h (fun v3 h => ?_)
    refine S_aload_n (i := 1) dX20_split_43 rfl rfl ?_
    refine P_gfr FLX20_59 rfl dX20_split_44 h (fun v4 h => ?_)
    refine P_gfr FLX20_74 rfl dX20_split_47 h (fun v5 h => ?_)
    refine S_iload dX20_split_50 rfl ?_
    refine P_lar (t := 6) ⟨by decide, by decide⟩ dX20_split_52 h (fun v6 h => ?_)
    refine P_gfr FLX20_78 rfl dX20_split_53 h (fun v7 h => ?_)
    refine P_invVp 0 [(1, v7)] [] CVX3_common MLX20_83 dX20_split_56 rfl rfl rfl rfl rfl (by omega) h (fun r h => F_X3_common (by omega) h) (fun v8 h => ?_)
    refine S_iload_n (i := 2) dX20_split_59 rfl rfl ?_
    refine P_icmp_ne (tgt := 66) dX20_split_60 rfl h (fun h => ?_) (fun h => ?_)
    · refine S_aload_n (i := 3) dX20_split_66 rfl rfl ?_
      refine P_gfr FLX20_59 rfl dX20_split_67 h (fun v9 h => ?_)
      refine S_aload_n (i := 1) dX20_split_70 rfl rfl ?_
      refine P_gfr FLX20_59 rfl dX20_split_71 h (fun v10 h => ?_)
      refine S_iload dX20_split_74 rfl ?_
      refine P_invVe 1 [(0, x4)] [(1, v9)] CVX22_remove MLX20_49 dX20_split_76 rfl rfl rfl rfl rfl (by omega) h (fun r h => F_X22_remove (by omega) h) (fun r1 h => ?_)
      refine P_invVm' [(1, r1.1)] [] CVX22_add MLX20_87 dX20_split_79 rfl rfl rfl rfl (by omega) h (fun r h => F_X22_add (by omega) h) (fun M1 h => ?_)
      refine S_iinc dX20_split_82 rfl rfl rfl ?_
      change Sem g d YX20_split 85 [(1, x0), (1, x1), (0, x2), (1, x3), (0, x4 + (-1))] [] M1 o
      exact s_X20_split_85 hD c0 r0 h hz
    · refine S_goto (tgt := 85) dX20_split_63 rfl ?_
      exact s_X20_split_85 hD c0 r0 h hz
theorem sl_X20_split_27 {g : GG} {d : Nat} (hD : 4 ≤ d) {x0 x1 x2 x3 x4 : Int} {M : MM} {o : AV × MM} {P : (MM) → Prop} (r0 : ∀ r : MM, P r → o = ((9, 0), r)) {z : MM} (h : l_X20_split_27 x0 x1 x2 x3 x4 M = some z) (hz : P z) : Sem g d YX20_split 27 [(1, x0), (1, x1), (0, x2), (1, x3), (0, x4)] [] M o := by
  refine lp_sound (S := fun s : Int × MM => Sem g d YX20_split 27 [(1, x0), (1, x1), (0, x2), (1, x3), (0, s.1)] [] s.2 o) (P := P) ?_ FU (x4, M) z h hz
  intro s x hx hP
  exact s_X20_split_27 hD (P := Sum.elim (fun s : Int × MM => Sem g d YX20_split 27 [(1, x0), (1, x1), (0, x2), (1, x3), (0, s.1)] [] s.2 o) P) (fun s h => h) (fun s h => r0 s h) hx hP
theorem s_X20_split_0 {g : GG} {d : Nat} (hD : 4 ≤ d) {x0 : Int} {M : MM} {o : AV × MM} {P : (MM) → Prop} (r0 : ∀ r : MM, P r → o = ((9, 0), r)) {z : MM} (h : f_X20_split x0 M = some z) (hz : P z) : Sem g d YX20_split 0 [(1, x0), (9, 0), (9, 0), (9, 0), (9, 0)] [] M o := by
  delta f_X20_split at h
  refine S_aload_n (i := 0) dX20_split_0 rfl rfl ?_
  refine P_gfr FLX20_13 rfl dX20_split_1 h (fun v1 h => ?_)
  refine S_aload_n (i := 0) dX20_split_4 rfl rfl ?_
  refine P_gfi FLX20_34 rfl dX20_split_5 h (fun v2 h => ?_)
  refine S_iconst dX20_split_8 rfl ?_
  refine S_isub dX20_split_9 ?_
  refine P_lar (t := 12) ⟨by decide, by decide⟩ dX20_split_10 h (fun v3 h => ?_)
  refine S_astore_n (i := 1) dX20_split_11 rfl (Nat.le_of_ble_eq_true rfl) rfl rfl ?_
  change Sem g d YX20_split 12 [(1, x0), (1, v3), (9, 0), (9, 0), (9, 0)] [] M o
  refine S_aload_n (i := 0) dX20_split_12 rfl rfl ?_
  refine P_gfi FLX20_34 rfl dX20_split_13 h (fun v4 h => ?_)
  refine S_iconst dX20_split_16 rfl ?_
  refine S_isub dX20_split_17 ?_
  refine S_istore_n (i := 2) dX20_split_18 rfl (Nat.le_of_ble_eq_true rfl) rfl rfl ?_
  change Sem g d YX20_split 19 [(1, x0), (1, v3), (0, v4 - 1), (9, 0), (9, 0)] [] M o
  refine S_aload_n (i := 0) dX20_split_19 rfl rfl ?_
  refine P_invVe 1 [] [] CVX20_open MLX20_70 dX20_split_20 rfl rfl rfl rfl rfl (by omega) h (fun r h => F_X20_open (by omega) h) (fun r1 h => ?_)
  refine S_astore_n (i := 3) dX20_split_23 rfl (Nat.le_of_ble_eq_true rfl) rfl rfl ?_
  change Sem g d YX20_split 24 [(1, x0), (1, v3), (0, v4 - 1), (1, r1.1), (9, 0)] [] r1.2 o
  refine S_iconst dX20_split_24 rfl ?_
  refine S_istore dX20_split_25 (Nat.le_of_ble_eq_true rfl) rfl rfl ?_
  change Sem g d YX20_split 27 [(1, x0), (1, v3), (0, v4 - 1), (1, r1.1), (0, 0)] [] r1.2 o
  exact sl_X20_split_27 hD r0 h hz
theorem F_X20_split {g : GG} {d : Nat} (hD : 4 ≤ d) {x0 : Int} {M : MM} {r : MM} (h : f_X20_split x0 M = some r) : Sem g d YX20_split 0 (ini YX20_split [(1, x0)]) [] M ((9, 0), r) := by
  change Sem g d YX20_split 0 [(1, x0), (9, 0), (9, 0), (9, 0), (9, 0)] [] M ((9, 0), r)
  exact s_X20_split_0 hD (P := fun x => x = r) (fun q e => by rw [e]) h rfl
/-! PeerSearch$Table.see(LPeerSearch$Key;I)LPeerSearch$Bucket; -/
theorem dX20_see_0 : decode cX20_see 0 = .ok (.aload_n 0, 1) := by decide +kernel
theorem dX20_see_1 : decode cX20_see 1 = .ok (.getfield 19, 3) := by decide +kernel
theorem dX20_see_4 : decode cX20_see 4 = .ok (.aload_n 1, 1) := by decide +kernel
theorem dX20_see_5 : decode cX20_see 5 = .ok (.invokevirtual 83, 3) := by decide +kernel
theorem dX20_see_8 : decode cX20_see 8 = .ok (.istore_n 3, 1) := by decide +kernel
theorem dX20_see_9 : decode cX20_see 9 = .ok (.iload_n 3, 1) := by decide +kernel
theorem dX20_see_10 : decode cX20_see 10 = .ok (.sipush 160, 3) := by decide +kernel
theorem dX20_see_13 : decode cX20_see 13 = .ok (.if_icmp .ne 5, 3) := by decide +kernel
theorem dX20_see_16 : decode cX20_see 16 = .ok (.aconst_null, 1) := by decide +kernel
theorem dX20_see_17 : decode cX20_see 17 = .ok (.areturn, 1) := by decide +kernel
theorem dX20_see_18 : decode cX20_see 18 = .ok (.aload_n 0, 1) := by decide +kernel
theorem dX20_see_19 : decode cX20_see 19 = .ok (.iload_n 3, 1) := by decide +kernel
theorem dX20_see_20 : decode cX20_see 20 = .ok (.invokevirtual 90, 3) := by decide +kernel
theorem dX20_see_23 : decode cX20_see 23 = .ok (.astore 4, 2) := by decide +kernel
theorem dX20_see_25 : decode cX20_see 25 = .ok (.aload 4, 2) := by decide +kernel
theorem dX20_see_27 : decode cX20_see 27 = .ok (.getfield 59, 3) := by decide +kernel
theorem dX20_see_30 : decode cX20_see 30 = .ok (.aload_n 1, 1) := by decide +kernel
theorem dX20_see_31 : decode cX20_see 31 = .ok (.invokevirtual 94, 3) := by decide +kernel
theorem dX20_see_34 : decode cX20_see 34 = .ok (.istore 5, 2) := by decide +kernel
theorem dX20_see_36 : decode cX20_see 36 = .ok (.iload 5, 2) := by decide +kernel
theorem dX20_see_38 : decode cX20_see 38 = .ok (.iconst (-1), 1) := by decide +kernel
theorem dX20_see_39 : decode cX20_see 39 = .ok (.if_icmp .eq 33, 3) := by decide +kernel
theorem dX20_see_42 : decode cX20_see 42 = .ok (.aload 4, 2) := by decide +kernel
theorem dX20_see_44 : decode cX20_see 44 = .ok (.getfield 59, 3) := by decide +kernel
theorem dX20_see_47 : decode cX20_see 47 = .ok (.getfield 74, 3) := by decide +kernel
theorem dX20_see_50 : decode cX20_see 50 = .ok (.iload 5, 2) := by decide +kernel
theorem dX20_see_52 : decode cX20_see 52 = .ok (.aaload, 1) := by decide +kernel
theorem dX20_see_53 : decode cX20_see 53 = .ok (.getfield 97, 3) := by decide +kernel
theorem dX20_see_56 : decode cX20_see 56 = .ok (.iload_n 2, 1) := by decide +kernel
theorem dX20_see_57 : decode cX20_see 57 = .ok (.if_icmp .ne 13, 3) := by decide +kernel
theorem dX20_see_60 : decode cX20_see 60 = .ok (.aload 4, 2) := by decide +kernel
theorem dX20_see_62 : decode cX20_see 62 = .ok (.getfield 59, 3) := by decide +kernel
theorem dX20_see_65 : decode cX20_see 65 = .ok (.iload 5, 2) := by decide +kernel
theorem dX20_see_67 : decode cX20_see 67 = .ok (.invokevirtual 100, 3) := by decide +kernel
theorem dX20_see_70 : decode cX20_see 70 = .ok (.aconst_null, 1) := by decide +kernel
theorem dX20_see_71 : decode cX20_see 71 = .ok (.areturn, 1) := by decide +kernel
theorem dX20_see_72 : decode cX20_see 72 = .ok (.aload 4, 2) := by decide +kernel
theorem dX20_see_74 : decode cX20_see 74 = .ok (.getfield 59, 3) := by decide +kernel
theorem dX20_see_77 : decode cX20_see 77 = .ok (.invokevirtual 103, 3) := by decide +kernel
theorem dX20_see_80 : decode cX20_see 80 = .ok (.ifCond .eq 43, 3) := by decide +kernel
theorem dX20_see_83 : decode cX20_see 83 = .ok (.aload 4, 2) := by decide +kernel
theorem dX20_see_85 : decode cX20_see 85 = .ok (.aload_n 0, 1) := by decide +kernel
theorem dX20_see_86 : decode cX20_see 86 = .ok (.getfield 13, 3) := by decide +kernel
theorem dX20_see_89 : decode cX20_see 89 = .ok (.aload_n 0, 1) := by decide +kernel
theorem dX20_see_90 : decode cX20_see 90 = .ok (.getfield 34, 3) := by decide +kernel
theorem dX20_see_93 : decode cX20_see 93 = .ok (.iconst 1, 1) := by decide +kernel
theorem dX20_see_94 : decode cX20_see 94 = .ok (.isub, 1) := by decide +kernel
theorem dX20_see_95 : decode cX20_see 95 = .ok (.aaload, 1) := by decide +kernel
theorem dX20_see_96 : decode cX20_see 96 = .ok (.if_acmp .ne 27, 3) := by decide +kernel
theorem dX20_see_99 : decode cX20_see 99 = .ok (.aload_n 0, 1) := by decide +kernel
theorem dX20_see_100 : decode cX20_see 100 = .ok (.getfield 34, 3) := by decide +kernel
theorem dX20_see_103 : decode cX20_see 103 = .ok (.sipush 160, 3) := by decide +kernel
theorem dX20_see_106 : decode cX20_see 106 = .ok (.if_icmp .ge 17, 3) := by decide +kernel
theorem dX20_see_109 : decode cX20_see 109 = .ok (.aload_n 0, 1) := by decide +kernel
theorem dX20_see_110 : decode cX20_see 110 = .ok (.invokevirtual 107, 3) := by decide +kernel
theorem dX20_see_113 : decode cX20_see 113 = .ok (.aload_n 0, 1) := by decide +kernel
theorem dX20_see_114 : decode cX20_see 114 = .ok (.iload_n 3, 1) := by decide +kernel
theorem dX20_see_115 : decode cX20_see 115 = .ok (.invokevirtual 90, 3) := by decide +kernel
theorem dX20_see_118 : decode cX20_see 118 = .ok (.astore 4, 2) := by decide +kernel
theorem dX20_see_120 : decode cX20_see 120 = .ok (.goto (-48), 3) := by decide +kernel
theorem dX20_see_123 : decode cX20_see 123 = .ok (.aload 4, 2) := by decide +kernel
theorem dX20_see_125 : decode cX20_see 125 = .ok (.getfield 67, 3) := by decide +kernel
theorem dX20_see_128 : decode cX20_see 128 = .ok (.aload_n 1, 1) := by decide +kernel
theorem dX20_see_129 : decode cX20_see 129 = .ok (.invokevirtual 94, 3) := by decide +kernel
theorem dX20_see_132 : decode cX20_see 132 = .ok (.istore 6, 2) := by decide +kernel
theorem dX20_see_134 : decode cX20_see 134 = .ok (.aload 4, 2) := by decide +kernel
theorem dX20_see_136 : decode cX20_see 136 = .ok (.getfield 59, 3) := by decide +kernel
theorem dX20_see_139 : decode cX20_see 139 = .ok (.invokevirtual 103, 3) := by decide +kernel
theorem dX20_see_142 : decode cX20_see 142 = .ok (.ifCond .ne 45, 3) := by decide +kernel
theorem dX20_see_145 : decode cX20_see 145 = .ok (.iload 6, 2) := by decide +kernel
theorem dX20_see_147 : decode cX20_see 147 = .ok (.iconst (-1), 1) := by decide +kernel
theorem dX20_see_148 : decode cX20_see 148 = .ok (.if_icmp .eq 20, 3) := by decide +kernel
theorem dX20_see_151 : decode cX20_see 151 = .ok (.aload_n 0, 1) := by decide +kernel
theorem dX20_see_152 : decode cX20_see 152 = .ok (.getfield 27, 3) := by decide +kernel
theorem dX20_see_155 : decode cX20_see 155 = .ok (.aload 4, 2) := by decide +kernel
theorem dX20_see_157 : decode cX20_see 157 = .ok (.getfield 67, 3) := by decide +kernel
theorem dX20_see_160 : decode cX20_see 160 = .ok (.iload 6, 2) := by decide +kernel
theorem dX20_see_162 : decode cX20_see 162 = .ok (.invokevirtual 49, 3) := by decide +kernel
theorem dX20_see_165 : decode cX20_see 165 = .ok (.invokevirtual 53, 3) := by decide +kernel
theorem dX20_see_168 : decode cX20_see 168 = .ok (.aload 4, 2) := by decide +kernel
theorem dX20_see_170 : decode cX20_see 170 = .ok (.getfield 59, 3) := by decide +kernel
theorem dX20_see_173 : decode cX20_see 173 = .ok (.aload_n 0, 1) := by decide +kernel
theorem dX20_see_174 : decode cX20_see 174 = .ok (.getfield 27, 3) := by decide +kernel
theorem dX20_see_177 : decode cX20_see 177 = .ok (.aload_n 1, 1) := by decide +kernel
theorem dX20_see_178 : decode cX20_see 178 = .ok (.iload_n 2, 1) := by decide +kernel
theorem dX20_see_179 : decode cX20_see 179 = .ok (.invokevirtual 110, 3) := by decide +kernel
theorem dX20_see_182 : decode cX20_see 182 = .ok (.invokevirtual 87, 3) := by decide +kernel
theorem dX20_see_185 : decode cX20_see 185 = .ok (.aconst_null, 1) := by decide +kernel
theorem dX20_see_186 : decode cX20_see 186 = .ok (.areturn, 1) := by decide +kernel
theorem dX20_see_187 : decode cX20_see 187 = .ok (.aload_n 0, 1) := by decide +kernel
theorem dX20_see_188 : decode cX20_see 188 = .ok (.aload 4, 2) := by decide +kernel
theorem dX20_see_190 : decode cX20_see 190 = .ok (.iload 6, 2) := by decide +kernel
theorem dX20_see_192 : decode cX20_see 192 = .ok (.aload_n 1, 1) := by decide +kernel
theorem dX20_see_193 : decode cX20_see 193 = .ok (.iload_n 2, 1) := by decide +kernel
theorem dX20_see_194 : decode cX20_see 194 = .ok (.invokevirtual 114, 3) := by decide +kernel
theorem dX20_see_197 : decode cX20_see 197 = .ok (.aload 4, 2) := by decide +kernel
theorem dX20_see_199 : decode cX20_see 199 = .ok (.getfield 40, 3) := by decide +kernel
theorem dX20_see_202 : decode cX20_see 202 = .ok (.ifCond .eq 7, 3) := by decide +kernel
theorem dX20_see_205 : decode cX20_see 205 = .ok (.aconst_null, 1) := by decide +kernel
theorem dX20_see_206 : decode cX20_see 206 = .ok (.goto 5, 3) := by decide +kernel
theorem dX20_see_209 : decode cX20_see 209 = .ok (.aload 4, 2) := by decide +kernel
theorem dX20_see_211 : decode cX20_see 211 = .ok (.areturn, 1) := by decide +kernel
def j_X20_see_211 (y0 : Int) (M : MM) : Option (Int × MM) :=
  some (y0, M)
def j_X20_see_168 (x0 x1 x2 x4 : Int) (M : MM) : Option (Int × MM) :=
  (gfr 21 0 x4 M).bind fun v1 =>
  (gfr 20 2 x0 M).bind fun v2 =>
  ck 9 v2 M <| (f_X9_take v2 x1 x2 M).bind fun r1 =>
  ck 22 v1 r1.2 <| (f_X22_add v1 r1.1 r1.2).bind fun M1 =>
  some ((-1), M1)
def j_X20_see_123 (x0 x1 x2 x4 : Int) (M : MM) : Option (Int × MM) :=
  (gfr 21 1 x4 M).bind fun v1 =>
  ck 22 v1 M <| (f_X22_find v1 x1 M).bind fun v2 =>
  (gfr 21 0 x4 M).bind fun v3 =>
  ck 22 v3 M <| (f_X22_isFull v3 M).bind fun v4 =>
  if w32 v4 = 0 then
    if w32 v2 = w32 (-1) then
      j_X20_see_168 x0 x1 x2 x4 M
    else
      (gfr 20 2 x0 M).bind fun v6 =>
      (gfr 21 1 x4 M).bind fun v7 =>
      ck 22 v7 M <| (f_X22_remove v7 v2 M).bind fun r1 =>
      ck 9 v6 r1.2 <| (f_X9_give v6 r1.1 r1.2).bind fun M2 =>
      j_X20_see_168 x0 x1 x2 x4 M2
  else
    ck 20 x0 M <| (f_X20_reserve x0 x4 v2 x1 x2 M).bind fun M1 =>
    (gfi 21 2 x4 M1).bind fun v5 =>
    if w32 v5 = 0 then
      j_X20_see_211 x4 M1
    else
      j_X20_see_211 (-1) M1
def b_X20_see_72 (x0 x1 x2 x3 x4 : Int) (M : MM) : Option ((Int × MM) ⊕ (Int × MM)) :=
  (gfr 21 0 x4 M).bind fun v1 =>
  ck 22 v1 M <| (f_X22_isFull v1 M).bind fun v2 =>
  if w32 v2 = 0 then
    xit (j_X20_see_123 x0 x1 x2 x4 M)
  else
    (gfr 20 3 x0 M).bind fun v3 =>
    (gfi 20 4 x0 M).bind fun v4 =>
    (lar 12 v3 (v4 - 1) M).bind fun v5 =>
    aeq x4 v5 (
      (gfi 20 4 x0 M).bind fun v6 =>
      if w32 v6 < w32 160 then
        ck 20 x0 M <| (f_X20_split x0 M).bind fun M1 =>
        ck 20 x0 M1 <| (f_X20_bucketFor x0 x3 M1).bind fun v7 =>
        cnt (v7, M1)
      else
        xit (j_X20_see_123 x0 x1 x2 x4 M)
      ) (
      xit (j_X20_see_123 x0 x1 x2 x4 M)
      )
def l_X20_see_72 (x0 x1 x2 x3 x4 : Int) (M : MM) : Option (Int × MM) := lpN (fun s : Int × MM => b_X20_see_72 x0 x1 x2 x3 s.1 s.2) FU (x4, M)
def j_X20_see_70 (M : MM) : Option (Int × MM) :=
  some ((-1), M)
def f_X20_see (x0 x1 x2 : Int) (M : MM) : Option (Int × MM) :=
  (gfr 20 0 x0 M).bind fun v1 =>
  ck 3 v1 M <| (f_X3_common v1 x1 M).bind fun v2 =>
  if w32 v2 = w32 160 then
    some ((-1), M)
  else
    ck 20 x0 M <| (f_X20_bucketFor x0 v2 M).bind fun v3 =>
    (gfr 21 0 v3 M).bind fun v4 =>
    ck 22 v4 M <| (f_X22_find v4 x1 M).bind fun v5 =>
    if w32 v5 = w32 (-1) then
      l_X20_see_72 x0 x1 x2 v2 v3 M
    else
      (gfr 21 0 v3 M).bind fun v6 =>
      (gfr 22 0 v6 M).bind fun v7 =>
      (lar 6 v7 v5 M).bind fun v8 =>
      (gfi 23 1 v8 M).bind fun v9 =>
      if w32 v9 = w32 x2 then
        (gfr 21 0 v3 M).bind fun v10 =>
        ck 22 v10 M <| (f_X22_touch v10 v5 M).bind fun M1 =>
        j_X20_see_70 M1
      else
        j_X20_see_70 M
theorem s_X20_see_211 {g : GG} {d : Nat} (hD : 5 ≤ d) {y0 : Int} {M : MM} {o : AV × MM} {P : (Int × MM) → Prop} (r0 : ∀ r : Int × MM, P r → o = ((1, r.1), r.2)) {z : Int × MM} (h : j_X20_see_211 y0 M = some z) (hz : P z) : Sem g d YX20_see 211 [(9, 0), (9, 0), (9, 0), (9, 0), (9, 0), (9, 0), (9, 0)] [(1, y0)] M o := by
  delta j_X20_see_211 at h
  obtain rfl := r0 _ (some_P (P := fun r => P r) h hz)
  exact S_areturn dX20_see_211 ⟨_, rfl, Or.inl ⟨_, rfl⟩⟩
theorem s_X20_see_168 {g : GG} {d : Nat} (hD : 5 ≤ d) {x0 x1 x2 x4 : Int} {M : MM} {o : AV × MM} {P : (Int × MM) → Prop} (r0 : ∀ r : Int × MM, P r → o = ((1, r.1), r.2)) {z : Int × MM} (h : j_X20_see_168 x0 x1 x2 x4 M = some z) (hz : P z) : Sem g d YX20_see 168 [(1, x0), (1, x1), (0, x2), (9, 0), (1, x4), (9, 0), (9, 0)] [] M o := by
  delta j_X20_see_168 at h
  refine S_aload dX20_see_168 rfl ?_
  refine P_gfr FLX20_59 rfl dX20_see_170 h (fun v1 h => ?_)
  refine S_aload_n (i := 0) dX20_see_173 rfl rfl ?_
  refine P_gfr FLX20_27 rfl dX20_see_174 h (fun v2 h => ?_)
  refine S_aload_n (i := 1) dX20_see_177 rfl rfl ?_
  refine S_iload_n (i := 2) dX20_see_178 rfl rfl ?_
  refine P_invVe 1 [(1, x1), (0, x2)] [(1, v1)] CVX9_take MLX20_110 dX20_see_179 rfl rfl rfl rfl rfl (by omega) h (fun r h => F_X9_take (by omega) h) (fun r1 h => ?_)
  refine P_invVm' [(1, r1.1)] [] CVX22_add MLX20_87 dX20_see_182 rfl rfl rfl rfl (by omega) h (fun r h => F_X22_add (by omega) h) (fun M1 h => ?_)
  refine S_null dX20_see_185 ?_
  obtain rfl := r0 _ (some_P (P := fun r => P r) h hz)
  exact S_areturn dX20_see_186 ⟨_, rfl, Or.inl ⟨_, rfl⟩⟩
theorem s_X20_see_123 {g : GG} {d : Nat} (hD : 5 ≤ d) {x0 x1 x2 x4 : Int} {M : MM} {o : AV × MM} {P : (Int × MM) → Prop} (r0 : ∀ r : Int × MM, P r → o = ((1, r.1), r.2)) {z : Int × MM} (h : j_X20_see_123 x0 x1 x2 x4 M = some z) (hz : P z) : Sem g d YX20_see 123 [(1, x0), (1, x1), (0, x2), (9, 0), (1, x4), (9, 0), (9, 0)] [] M o := by
  delta j_X20_see_123 at h
  refine S_aload dX20_see_123 rfl ?_
  refine P_gfr FLX20_67 rfl dX20_see_125 h (fun v1 h => ?_)
  refine S_aload_n (i := 1) dX20_see_128 rfl rfl ?_
  refine P_invVp 0 [(1, x1)] [] CVX22_find MLX20_94 dX20_see_129 rfl rfl rfl rfl rfl (by omega) h (fun r h => F_X22_find (by omega) h) (fun v2 h => ?_)
  refine S_istore dX20_see_132 (Nat.le_of_ble_eq_true rfl) rfl rfl ?_
  change Sem g d YX20_see 134 [(1, x0), (1, x1), (0, x2), (9, 0), (1, x4), (9, 0), (0, v2)] [] M o
  refine S_aload dX20_see_134 rfl ?_
  refine P_gfr FLX20_59 rfl dX20_see_136 h (fun v3 h => ?_)
  refine P_invVp 0 [] [] CVX22_isFull MLX20_103 dX20_see_139 rfl rfl rfl rfl rfl (by omega) h (fun r h => F_X22_isFull (by omega) h) (fun v4 h => ?_)
  refine P_if_ne (tgt := 187) dX20_see_142 rfl h (fun h => ?_) (fun h => ?_)
  · refine S_aload_n (i := 0) dX20_see_187 rfl rfl ?_
    refine S_aload dX20_see_188 rfl ?_
    refine S_iload dX20_see_190 rfl ?_
    refine S_aload_n (i := 1) dX20_see_192 rfl rfl ?_
    refine S_iload_n (i := 2) dX20_see_193 rfl rfl ?_
    refine P_invVm' [(1, x4), (0, v2), (1, x1), (0, x2)] [] CVX20_reserve MLX20_114 dX20_see_194 rfl rfl rfl rfl (by omega) h (fun r h => F_X20_reserve (by omega) h) (fun M1 h => ?_)
    refine S_aload dX20_see_197 rfl ?_
    refine P_gfi FLX20_40 rfl dX20_see_199 h (fun v5 h => ?_)
    refine P_if_eq (tgt := 209) dX20_see_202 rfl h (fun h => ?_) (fun h => ?_)
    · refine S_aload dX20_see_209 rfl ?_
      refine S_weak (ls' := [(9, 0), (9, 0), (9, 0), (9, 0), (9, 0), (9, 0), (9, 0)]) ⟨Or.inl rfl, ⟨Or.inl rfl, ⟨Or.inl rfl, ⟨Or.inl rfl, ⟨Or.inl rfl, ⟨Or.inl rfl, ⟨Or.inl rfl, trivial⟩⟩⟩⟩⟩⟩⟩ ?_
      exact s_X20_see_211 hD r0 h hz
    · refine S_null dX20_see_205 ?_
      refine S_goto (tgt := 211) dX20_see_206 rfl ?_
      refine S_weak (ls' := [(9, 0), (9, 0), (9, 0), (9, 0), (9, 0), (9, 0), (9, 0)]) ⟨Or.inl rfl, ⟨Or.inl rfl, ⟨Or.inl rfl, ⟨Or.inl rfl, ⟨Or.inl rfl, ⟨Or.inl rfl, ⟨Or.inl rfl, trivial⟩⟩⟩⟩⟩⟩⟩ ?_
      exact s_X20_see_211 hD r0 h hz
  · refine S_iload dX20_see_145 rfl ?_
    refine S_iconst dX20_see_147 rfl ?_
    refine P_icmp_eq (tgt := 168) dX20_see_148 rfl h (fun h => ?_) (fun h => ?_)
    · refine S_weak (ls' := [(1, x0), (1, x1), (0, x2), (9, 0), (1, x4), (9, 0), (9, 0)]) ⟨Or.inr rfl, ⟨Or.inr rfl, ⟨Or.inr rfl, ⟨Or.inl rfl, ⟨Or.inr rfl, ⟨Or.inl rfl, ⟨Or.inl rfl, trivial⟩⟩⟩⟩⟩⟩⟩ ?_
      exact s_X20_see_168 hD r0 h hz
    · refine S_aload_n (i := 0) dX20_see_151 rfl rfl ?_
      refine P_gfr FLX20_27 rfl dX20_see_152 h (fun v6 h => ?_)
      refine S_aload dX20_see_155 rfl ?_
      refine P_gfr FLX20_67 rfl dX20_see_157 h (fun v7 h => ?_)
      refine S_iload dX20_see_160 rfl ?_
      refine P_invVe 1 [(0, v2)] [(1, v6)] CVX22_remove MLX20_49 dX20_see_162 rfl rfl rfl rfl rfl (by omega) h (fun r h => F_X22_remove (by omega) h) (fun r1 h => ?_)
      refine P_invVm' [(1, r1.1)] [] CVX9_give MLX20_53 dX20_see_165 rfl rfl rfl rfl (by omega) h (fun r h => F_X9_give (by omega) h) (fun M2 h => ?_)
      refine S_weak (ls' := [(1, x0), (1, x1), (0, x2), (9, 0), (1, x4), (9, 0), (9, 0)]) ⟨Or.inr rfl, ⟨Or.inr rfl, ⟨Or.inr rfl, ⟨Or.inl rfl, ⟨Or.inr rfl, ⟨Or.inl rfl, ⟨Or.inl rfl, trivial⟩⟩⟩⟩⟩⟩⟩ ?_
      exact s_X20_see_168 hD r0 h hz
theorem s_X20_see_72 {g : GG} {d : Nat} (hD : 5 ≤ d) {x0 x1 x2 x3 x4 : Int} {M : MM} {o : AV × MM} {P : ((Int × MM) ⊕ (Int × MM)) → Prop} (c0 : ∀ s : Int × MM, P (.inl s) → Sem g d YX20_see 72 [(1, x0), (1, x1), (0, x2), (0, x3), (1, s.1), (9, 0), (9, 0)] [] s.2 o) (r0 : ∀ r : Int × MM, P (.inr r) → o = ((1, r.1), r.2)) {z : (Int × MM) ⊕ (Int × MM)} (h : b_X20_see_72 x0 x1 x2 x3 x4 M = some z) (hz : P z) : Sem g d YX20_see 72 [(1, x0), (1, x1), (0, x2), (0, x3), (1, x4), (9, 0), (9, 0)] [] M o := by
  delta b_X20_see_72 at h
  refine S_aload dX20_see_72 rfl ?_
  refine P_gfr FLX20_59 rfl dX20_see_74 h (fun v1 h => ?_)
  refine P_invVp 0 [] [] CVX22_isFull MLX20_103 dX20_see_77 rfl rfl rfl rfl rfl (by omega) h (fun r h => F_X22_isFull (by omega) h) (fun v2 h => ?_)
  refine P_if_eq (tgt := 123) dX20_see_80 rfl h (fun h => ?_) (fun h => ?_)
  · refine S_weak (ls' := [(1, x0), (1, x1), (0, x2), (9, 0), (1, x4), (9, 0), (9, 0)]) ⟨Or.inr rfl, ⟨Or.inr rfl, ⟨Or.inr rfl, ⟨Or.inl rfl, ⟨Or.inr rfl, ⟨Or.inl rfl, ⟨Or.inl rfl, trivial⟩⟩⟩⟩⟩⟩⟩ ?_
    obtain ⟨z0, h, hz⟩ := xit_some' (P := fun r => P r) h hz
    exact s_X20_see_123 hD (P := fun r => P (.inr r)) r0 h hz
  · refine S_aload dX20_see_83 rfl ?_
    refine S_aload_n (i := 0) dX20_see_85 rfl rfl ?_
    refine P_gfr FLX20_13 rfl dX20_see_86 h (fun v3 h => ?_)
    refine S_aload_n (i := 0) dX20_see_89 rfl rfl ?_
    refine P_gfi FLX20_34 rfl dX20_see_90 h (fun v4 h => ?_)
    refine S_iconst dX20_see_93 rfl ?_
    refine S_isub dX20_see_94 ?_
    refine P_lar (t := 12) ⟨by decide, by decide⟩ dX20_see_95 h (fun v5 h => ?_)
    refine P_acmp_ne (tgt := 123) dX20_see_96 rfl h (fun h => ?_) (fun h => ?_)
    · refine S_weak (ls' := [(1, x0), (1, x1), (0, x2), (9, 0), (1, x4), (9, 0), (9, 0)]) ⟨Or.inr rfl, ⟨Or.inr rfl, ⟨Or.inr rfl, ⟨Or.inl rfl, ⟨Or.inr rfl, ⟨Or.inl rfl, ⟨Or.inl rfl, trivial⟩⟩⟩⟩⟩⟩⟩ ?_
      obtain ⟨z0, h, hz⟩ := xit_some' (P := fun r => P r) h hz
      exact s_X20_see_123 hD (P := fun r => P (.inr r)) r0 h hz
    · refine S_aload_n (i := 0) dX20_see_99 rfl rfl ?_
      refine P_gfi FLX20_34 rfl dX20_see_100 h (fun v6 h => ?_)
      refine S_sipush (z := 160) dX20_see_103 rfl ?_
      refine P_icmp_ge (tgt := 123) dX20_see_106 rfl h (fun h => ?_) (fun h => ?_)
      · refine S_weak (ls' := [(1, x0), (1, x1), (0, x2), (9, 0), (1, x4), (9, 0), (9, 0)]) ⟨Or.inr rfl, ⟨Or.inr rfl, ⟨Or.inr rfl, ⟨Or.inl rfl, ⟨Or.inr rfl, ⟨Or.inl rfl, ⟨Or.inl rfl, trivial⟩⟩⟩⟩⟩⟩⟩ ?_
        obtain ⟨z0, h, hz⟩ := xit_some' (P := fun r => P r) h hz
        exact s_X20_see_123 hD (P := fun r => P (.inr r)) r0 h hz
      · refine S_aload_n (i := 0) dX20_see_109 rfl rfl ?_
        refine P_invVm' [] [] CVX20_split MLX20_107 dX20_see_110 rfl rfl rfl rfl (by omega) h (fun r h => F_X20_split (by omega) h) (fun M1 h => ?_)
        refine S_aload_n (i := 0) dX20_see_113 rfl rfl ?_
        refine S_iload_n (i := 3) dX20_see_114 rfl rfl ?_
        refine P_invVp 1 [(0, x3)] [] CVX20_bucketFor MLX20_90 dX20_see_115 rfl rfl rfl rfl rfl (by omega) h (fun r h => F_X20_bucketFor (by omega) h) (fun v7 h => ?_)
        refine S_astore dX20_see_118 (Nat.le_of_ble_eq_true rfl) rfl rfl ?_
        change Sem g d YX20_see 120 [(1, x0), (1, x1), (0, x2), (0, x3), (1, v7), (9, 0), (9, 0)] [] M1 o
        refine S_goto (tgt := 72) dX20_see_120 rfl ?_
        exact c0 (v7, M1) (some_P (P := fun r => P r) h hz)
theorem sl_X20_see_72 {g : GG} {d : Nat} (hD : 5 ≤ d) {x0 x1 x2 x3 x4 : Int} {M : MM} {o : AV × MM} {P : (Int × MM) → Prop} (r0 : ∀ r : Int × MM, P r → o = ((1, r.1), r.2)) {z : Int × MM} (h : l_X20_see_72 x0 x1 x2 x3 x4 M = some z) (hz : P z) : Sem g d YX20_see 72 [(1, x0), (1, x1), (0, x2), (0, x3), (1, x4), (9, 0), (9, 0)] [] M o := by
  refine lp_sound (S := fun s : Int × MM => Sem g d YX20_see 72 [(1, x0), (1, x1), (0, x2), (0, x3), (1, s.1), (9, 0), (9, 0)] [] s.2 o) (P := P) ?_ FU (x4, M) z h hz
  intro s x hx hP
  exact s_X20_see_72 hD (P := Sum.elim (fun s : Int × MM => Sem g d YX20_see 72 [(1, x0), (1, x1), (0, x2), (0, x3), (1, s.1), (9, 0), (9, 0)] [] s.2 o) P) (fun s h => h) (fun s h => r0 s h) hx hP
theorem s_X20_see_70 {g : GG} {d : Nat} (hD : 5 ≤ d) {M : MM} {o : AV × MM} {P : (Int × MM) → Prop} (r0 : ∀ r : Int × MM, P r → o = ((1, r.1), r.2)) {z : Int × MM} (h : j_X20_see_70 M = some z) (hz : P z) : Sem g d YX20_see 70 [(9, 0), (9, 0), (9, 0), (9, 0), (9, 0), (9, 0), (9, 0)] [] M o := by
  delta j_X20_see_70 at h
  refine S_null dX20_see_70 ?_
  obtain rfl := r0 _ (some_P (P := fun r => P r) h hz)
  exact S_areturn dX20_see_71 ⟨_, rfl, Or.inl ⟨_, rfl⟩⟩
theorem s_X20_see_0 {g : GG} {d : Nat} (hD : 5 ≤ d) {x0 x1 x2 : Int} {M : MM} {o : AV × MM} {P : (Int × MM) → Prop} (r0 : ∀ r : Int × MM, P r → o = ((1, r.1), r.2)) {z : Int × MM} (h : f_X20_see x0 x1 x2 M = some z) (hz : P z) : Sem g d YX20_see 0 [(1, x0), (1, x1), (0, x2), (9, 0), (9, 0), (9, 0), (9, 0)] [] M o := by
  delta f_X20_see at h
  refine S_aload_n (i := 0) dX20_see_0 rfl rfl ?_
  refine P_gfr FLX20_19 rfl dX20_see_1 h (fun v1 h => ?_)
  refine S_aload_n (i := 1) dX20_see_4 rfl rfl ?_
  refine P_invVp 0 [(1, x1)] [] CVX3_common MLX20_83 dX20_see_5 rfl rfl rfl rfl rfl (by omega) h (fun r h => F_X3_common (by omega) h) (fun v2 h => ?_)
  refine S_istore_n (i := 3) dX20_see_8 rfl (Nat.le_of_ble_eq_true rfl) rfl rfl ?_
  change Sem g d YX20_see 9 [(1, x0), (1, x1), (0, x2), (0, v2), (9, 0), (9, 0), (9, 0)] [] M o
  refine S_iload_n (i := 3) dX20_see_9 rfl rfl ?_
  refine S_sipush (z := 160) dX20_see_10 rfl ?_
  refine P_icmp_ne (tgt := 18) dX20_see_13 rfl h (fun h => ?_) (fun h => ?_)
  · refine S_aload_n (i := 0) dX20_see_18 rfl rfl ?_
    refine S_iload_n (i := 3) dX20_see_19 rfl rfl ?_
    refine P_invVp 1 [(0, v2)] [] CVX20_bucketFor MLX20_90 dX20_see_20 rfl rfl rfl rfl rfl (by omega) h (fun r h => F_X20_bucketFor (by omega) h) (fun v3 h => ?_)
    refine S_astore dX20_see_23 (Nat.le_of_ble_eq_true rfl) rfl rfl ?_
    change Sem g d YX20_see 25 [(1, x0), (1, x1), (0, x2), (0, v2), (1, v3), (9, 0), (9, 0)] [] M o
    refine S_aload dX20_see_25 rfl ?_
    refine P_gfr FLX20_59 rfl dX20_see_27 h (fun v4 h => ?_)
    refine S_aload_n (i := 1) dX20_see_30 rfl rfl ?_
    refine P_invVp 0 [(1, x1)] [] CVX22_find MLX20_94 dX20_see_31 rfl rfl rfl rfl rfl (by omega) h (fun r h => F_X22_find (by omega) h) (fun v5 h => ?_)
    refine S_istore dX20_see_34 (Nat.le_of_ble_eq_true rfl) rfl rfl ?_
    change Sem g d YX20_see 36 [(1, x0), (1, x1), (0, x2), (0, v2), (1, v3), (0, v5), (9, 0)] [] M o
    refine S_iload dX20_see_36 rfl ?_
    refine S_iconst dX20_see_38 rfl ?_
    refine P_icmp_eq (tgt := 72) dX20_see_39 rfl h (fun h => ?_) (fun h => ?_)
    · refine S_weak (ls' := [(1, x0), (1, x1), (0, x2), (0, v2), (1, v3), (9, 0), (9, 0)]) ⟨Or.inr rfl, ⟨Or.inr rfl, ⟨Or.inr rfl, ⟨Or.inr rfl, ⟨Or.inr rfl, ⟨Or.inl rfl, ⟨Or.inl rfl, trivial⟩⟩⟩⟩⟩⟩⟩ ?_
      exact sl_X20_see_72 hD r0 h hz
    · refine S_aload dX20_see_42 rfl ?_
      refine P_gfr FLX20_59 rfl dX20_see_44 h (fun v6 h => ?_)
      refine P_gfr FLX20_74 rfl dX20_see_47 h (fun v7 h => ?_)
      refine S_iload dX20_see_50 rfl ?_
      refine P_lar (t := 6) ⟨by decide, by decide⟩ dX20_see_52 h (fun v8 h => ?_)
      refine P_gfi FLX20_97 rfl dX20_see_53 h (fun v9 h => ?_)
      refine S_iload_n (i := 2) dX20_see_56 rfl rfl ?_
      refine P_icmp_ne (tgt := 70) dX20_see_57 rfl h (fun h => ?_) (fun h => ?_)
      · refine S_weak (ls' := [(9, 0), (9, 0), (9, 0), (9, 0), (9, 0), (9, 0), (9, 0)]) ⟨Or.inl rfl, ⟨Or.inl rfl, ⟨Or.inl rfl, ⟨Or.inl rfl, ⟨Or.inl rfl, ⟨Or.inl rfl, ⟨Or.inl rfl, trivial⟩⟩⟩⟩⟩⟩⟩ ?_
        exact s_X20_see_70 hD r0 h hz
      · refine S_aload dX20_see_60 rfl ?_
        refine P_gfr FLX20_59 rfl dX20_see_62 h (fun v10 h => ?_)
        refine S_iload dX20_see_65 rfl ?_
        refine P_invVm' [(0, v5)] [] CVX22_touch MLX20_100 dX20_see_67 rfl rfl rfl rfl (by omega) h (fun r h => F_X22_touch (by omega) h) (fun M1 h => ?_)
        refine S_weak (ls' := [(9, 0), (9, 0), (9, 0), (9, 0), (9, 0), (9, 0), (9, 0)]) ⟨Or.inl rfl, ⟨Or.inl rfl, ⟨Or.inl rfl, ⟨Or.inl rfl, ⟨Or.inl rfl, ⟨Or.inl rfl, ⟨Or.inl rfl, trivial⟩⟩⟩⟩⟩⟩⟩ ?_
        exact s_X20_see_70 hD r0 h hz
  · refine S_null dX20_see_16 ?_
    obtain rfl := r0 _ (some_P (P := fun r => P r) h hz)
    exact S_areturn dX20_see_17 ⟨_, rfl, Or.inl ⟨_, rfl⟩⟩
theorem F_X20_see {g : GG} {d : Nat} (hD : 5 ≤ d) {x0 x1 x2 : Int} {M : MM} {r : Int × MM} (h : f_X20_see x0 x1 x2 M = some r) : Sem g d YX20_see 0 (ini YX20_see [(1, x0), (1, x1), (0, x2)]) [] M ((1, r.1), r.2) := by
  change Sem g d YX20_see 0 [(1, x0), (1, x1), (0, x2), (9, 0), (9, 0), (9, 0), (9, 0)] [] M ((1, r.1), r.2)
  exact s_X20_see_0 hD (P := fun x => x = r) (fun q e => by rw [e]) h rfl
/-! PeerSearch$Peer.see(LPeerSearch$Key;I)V -/
theorem dX17_see_0 : decode cX17_see 0 = .ok (.aload_n 0, 1) := by decide +kernel
theorem dX17_see_1 : decode cX17_see 1 = .ok (.getfield 67, 3) := by decide +kernel
theorem dX17_see_4 : decode cX17_see 4 = .ok (.aload_n 1, 1) := by decide +kernel
theorem dX17_see_5 : decode cX17_see 5 = .ok (.iload_n 2, 1) := by decide +kernel
theorem dX17_see_6 : decode cX17_see 6 = .ok (.invokevirtual 181, 3) := by decide +kernel
theorem dX17_see_9 : decode cX17_see 9 = .ok (.astore_n 3, 1) := by decide +kernel
theorem dX17_see_10 : decode cX17_see 10 = .ok (.aload_n 3, 1) := by decide +kernel
theorem dX17_see_11 : decode cX17_see 11 = .ok (.ifnonnull 4, 3) := by decide +kernel
theorem dX17_see_14 : decode cX17_see 14 = .ok (.return_, 1) := by decide +kernel
theorem dX17_see_15 : decode cX17_see 15 = .ok (.aload_n 0, 1) := by decide +kernel
theorem dX17_see_16 : decode cX17_see 16 = .ok (.iconst 1, 1) := by decide +kernel
theorem dX17_see_17 : decode cX17_see 17 = .ok (.invokevirtual 185, 3) := by decide +kernel
theorem dX17_see_20 : decode cX17_see 20 = .ok (.astore 4, 2) := by decide +kernel
theorem dX17_see_22 : decode cX17_see 22 = .ok (.aload_n 3, 1) := by decide +kernel
theorem dX17_see_23 : decode cX17_see 23 = .ok (.getfield 188, 3) := by decide +kernel
theorem dX17_see_26 : decode cX17_see 26 = .ok (.getfield 194, 3) := by decide +kernel
theorem dX17_see_29 : decode cX17_see 29 = .ok (.iconst 0, 1) := by decide +kernel
theorem dX17_see_30 : decode cX17_see 30 = .ok (.aaload, 1) := by decide +kernel
theorem dX17_see_31 : decode cX17_see 31 = .ok (.astore 5, 2) := by decide +kernel
theorem dX17_see_33 : decode cX17_see 33 = .ok (.aload_n 3, 1) := by decide +kernel
theorem dX17_see_34 : decode cX17_see 34 = .ok (.aload_n 0, 1) := by decide +kernel
theorem dX17_see_35 : decode cX17_see 35 = .ok (.aload 5, 2) := by decide +kernel
theorem dX17_see_37 : decode cX17_see 37 = .ok (.getfield 200, 3) := by decide +kernel
theorem dX17_see_40 : decode cX17_see 40 = .ok (.aload 5, 2) := by decide +kernel
theorem dX17_see_42 : decode cX17_see 42 = .ok (.getfield 203, 3) := by decide +kernel
theorem dX17_see_45 : decode cX17_see 45 = .ok (.aconst_null, 1) := by decide +kernel
theorem dX17_see_46 : decode cX17_see 46 = .ok (.iconst 0, 1) := by decide +kernel
theorem dX17_see_47 : decode cX17_see 47 = .ok (.aload_n 3, 1) := by decide +kernel
theorem dX17_see_48 : decode cX17_see 48 = .ok (.invokevirtual 204, 3) := by decide +kernel
theorem dX17_see_51 : decode cX17_see 51 = .ok (.putfield 208, 3) := by decide +kernel
theorem dX17_see_54 : decode cX17_see 54 = .ok (.return_, 1) := by decide +kernel
def f_X17_see (x0 x1 x2 : Int) (M : MM) : Option (MM) :=
  (gfr 17 5 x0 M).bind fun v1 =>
  ck 20 v1 M <| (f_X20_see v1 x1 x2 M).bind fun r1 =>
  if r1.1 = -1 then
    some r1.2
  else
    ck 17 x0 r1.2 <| (f_X17_begin x0 1 r1.2).bind fun r2 =>
    (gfr 21 0 r1.1 r2.2).bind fun v2 =>
    (gfr 22 0 v2 r2.2).bind fun v3 =>
    (lar 6 v3 0 r2.2).bind fun v4 =>
    (gfr 23 0 v4 r2.2).bind fun v5 =>
    (gfi 23 1 v4 r2.2).bind fun v6 =>
    ck 17 x0 r2.2 <| (f_X17_ask x0 v5 v6 (-1) 0 r1.1 r2.2).bind fun r3 =>
    (pfz 21 2 r1.1 r3.1 r3.2).bind fun M1 =>
    some M1
theorem s_X17_see_0 {g : GG} {d : Nat} (hD : 8 ≤ d) {x0 x1 x2 : Int} {M : MM} {o : AV × MM} {P : (MM) → Prop} (r0 : ∀ r : MM, P r → o = ((9, 0), r)) {z : MM} (h : f_X17_see x0 x1 x2 M = some z) (hz : P z) : Sem g d YX17_see 0 [(1, x0), (1, x1), (0, x2), (9, 0), (9, 0), (9, 0)] [] M o := by
  delta f_X17_see at h
  refine S_aload_n (i := 0) dX17_see_0 rfl rfl ?_
  refine P_gfr FLX17_67 rfl dX17_see_1 h (fun v1 h => ?_)
  refine S_aload_n (i := 1) dX17_see_4 rfl rfl ?_
  refine S_iload_n (i := 2) dX17_see_5 rfl rfl ?_
  refine P_invVe 1 [(1, x1), (0, x2)] [] CVX20_see MLX17_181 dX17_see_6 rfl rfl rfl rfl rfl (by omega) h (fun r h => F_X20_see (by omega) h) (fun r1 h => ?_)
  refine S_astore_n (i := 3) dX17_see_9 rfl (Nat.le_of_ble_eq_true rfl) rfl rfl ?_
  change Sem g d YX17_see 10 [(1, x0), (1, x1), (0, x2), (1, r1.1), (9, 0), (9, 0)] [] r1.2 o
  refine S_aload_n (i := 3) dX17_see_10 rfl rfl ?_
  refine P_ifnonnull (tgt := 15) dX17_see_11 rfl h (fun h => ?_) (fun h => ?_)
  · refine S_aload_n (i := 0) dX17_see_15 rfl rfl ?_
    refine S_iconst dX17_see_16 rfl ?_
    refine P_invVe 1 [(0, 1)] [] CVX17_begin MLX17_185 dX17_see_17 rfl rfl rfl rfl rfl (by omega) h (fun r h => F_X17_begin (by omega) h) (fun r2 h => ?_)
    refine S_astore dX17_see_20 (Nat.le_of_ble_eq_true rfl) rfl rfl ?_
    change Sem g d YX17_see 22 [(1, x0), (1, x1), (0, x2), (1, r1.1), (1, r2.1), (9, 0)] [] r2.2 o
    refine S_aload_n (i := 3) dX17_see_22 rfl rfl ?_
    refine P_gfr FLX17_188 rfl dX17_see_23 h (fun v2 h => ?_)
    refine P_gfr FLX17_194 rfl dX17_see_26 h (fun v3 h => ?_)
    refine S_iconst dX17_see_29 rfl ?_
    refine P_lar (t := 6) ⟨by decide, by decide⟩ dX17_see_30 h (fun v4 h => ?_)
    refine S_astore dX17_see_31 (Nat.le_of_ble_eq_true rfl) rfl rfl ?_
    change Sem g d YX17_see 33 [(1, x0), (1, x1), (0, x2), (1, r1.1), (1, r2.1), (1, v4)] [] r2.2 o
    refine S_aload_n (i := 3) dX17_see_33 rfl rfl ?_
    refine S_aload_n (i := 0) dX17_see_34 rfl rfl ?_
    refine S_aload dX17_see_35 rfl ?_
    refine P_gfr FLX17_200 rfl dX17_see_37 h (fun v5 h => ?_)
    refine S_aload dX17_see_40 rfl ?_
    refine P_gfi FLX17_203 rfl dX17_see_42 h (fun v6 h => ?_)
    refine S_null dX17_see_45 ?_
    refine S_iconst dX17_see_46 rfl ?_
    refine S_aload_n (i := 3) dX17_see_47 rfl rfl ?_
    refine P_invVe 0 [(1, v5), (0, v6), (1, (-1)), (0, 0), (1, r1.1)] [(1, r1.1)] CVX17_ask MLX17_204 dX17_see_48 rfl rfl rfl rfl rfl (by omega) h (fun r h => F_X17_ask (by omega) h) (fun r3 h => ?_)
    refine P_pfz FLX17_208 FPX17_208 rfl dX17_see_51 h (fun M1 h => ?_)
    obtain rfl := r0 _ (some_P (P := fun r => P r) h hz)
    exact S_return dX17_see_54 rfl
  · obtain rfl := r0 _ (some_P (P := fun r => P r) h hz)
    exact S_return dX17_see_14 rfl
theorem F_X17_see {g : GG} {d : Nat} (hD : 8 ≤ d) {x0 x1 x2 : Int} {M : MM} {r : MM} (h : f_X17_see x0 x1 x2 M = some r) : Sem g d YX17_see 0 (ini YX17_see [(1, x0), (1, x1), (0, x2)]) [] M ((9, 0), r) := by
  change Sem g d YX17_see 0 [(1, x0), (1, x1), (0, x2), (9, 0), (9, 0), (9, 0)] [] M ((9, 0), r)
  exact s_X17_see_0 hD (P := fun x => x = r) (fun q e => by rw [e]) h rfl
/-! PeerSearch.join(II)I -/
theorem dX1_join_0 : decode cX1_join 0 = .ok (.aload_n 0, 1) := by decide +kernel
theorem dX1_join_1 : decode cX1_join 1 = .ok (.invokevirtual 167, 3) := by decide +kernel
theorem dX1_join_4 : decode cX1_join 4 = .ok (.astore_n 3, 1) := by decide +kernel
theorem dX1_join_5 : decode cX1_join 5 = .ok (.aload_n 0, 1) := by decide +kernel
theorem dX1_join_6 : decode cX1_join 6 = .ok (.iload_n 1, 1) := by decide +kernel
theorem dX1_join_7 : decode cX1_join 7 = .ok (.invokevirtual 113, 3) := by decide +kernel
theorem dX1_join_10 : decode cX1_join 10 = .ok (.ifCond .eq 28, 3) := by decide +kernel
theorem dX1_join_13 : decode cX1_join 13 = .ok (.aload_n 0, 1) := by decide +kernel
theorem dX1_join_14 : decode cX1_join 14 = .ok (.iload_n 2, 1) := by decide +kernel
theorem dX1_join_15 : decode cX1_join 15 = .ok (.invokevirtual 113, 3) := by decide +kernel
theorem dX1_join_18 : decode cX1_join 18 = .ok (.ifCond .eq 20, 3) := by decide +kernel
theorem dX1_join_21 : decode cX1_join 21 = .ok (.iload_n 1, 1) := by decide +kernel
theorem dX1_join_22 : decode cX1_join 22 = .ok (.iload_n 2, 1) := by decide +kernel
theorem dX1_join_23 : decode cX1_join 23 = .ok (.if_icmp .eq 15, 3) := by decide +kernel
theorem dX1_join_26 : decode cX1_join 26 = .ok (.aload_n 0, 1) := by decide +kernel
theorem dX1_join_27 : decode cX1_join 27 = .ok (.iload_n 1, 1) := by decide +kernel
theorem dX1_join_28 : decode cX1_join 28 = .ok (.invokevirtual 149, 3) := by decide +kernel
theorem dX1_join_31 : decode cX1_join 31 = .ok (.ifCond .ne 7, 3) := by decide +kernel
theorem dX1_join_34 : decode cX1_join 34 = .ok (.aload_n 3, 1) := by decide +kernel
theorem dX1_join_35 : decode cX1_join 35 = .ok (.ifnonnull 5, 3) := by decide +kernel
theorem dX1_join_38 : decode cX1_join 38 = .ok (.iconst (-1), 1) := by decide +kernel
theorem dX1_join_39 : decode cX1_join 39 = .ok (.ireturn, 1) := by decide +kernel
theorem dX1_join_40 : decode cX1_join 40 = .ok (.aload_n 0, 1) := by decide +kernel
theorem dX1_join_41 : decode cX1_join 41 = .ok (.getfield 70, 3) := by decide +kernel
theorem dX1_join_44 : decode cX1_join 44 = .ok (.getfield 114, 3) := by decide +kernel
theorem dX1_join_47 : decode cX1_join 47 = .ok (.iload_n 1, 1) := by decide +kernel
theorem dX1_join_48 : decode cX1_join 48 = .ok (.aaload, 1) := by decide +kernel
theorem dX1_join_49 : decode cX1_join 49 = .ok (.invokevirtual 152, 3) := by decide +kernel
theorem dX1_join_52 : decode cX1_join 52 = .ok (.aload_n 0, 1) := by decide +kernel
theorem dX1_join_53 : decode cX1_join 53 = .ok (.getfield 70, 3) := by decide +kernel
theorem dX1_join_56 : decode cX1_join 56 = .ok (.getfield 114, 3) := by decide +kernel
theorem dX1_join_59 : decode cX1_join 59 = .ok (.iload_n 1, 1) := by decide +kernel
theorem dX1_join_60 : decode cX1_join 60 = .ok (.aaload, 1) := by decide +kernel
theorem dX1_join_61 : decode cX1_join 61 = .ok (.aload_n 0, 1) := by decide +kernel
theorem dX1_join_62 : decode cX1_join 62 = .ok (.getfield 70, 3) := by decide +kernel
theorem dX1_join_65 : decode cX1_join 65 = .ok (.getfield 114, 3) := by decide +kernel
theorem dX1_join_68 : decode cX1_join 68 = .ok (.iload_n 2, 1) := by decide +kernel
theorem dX1_join_69 : decode cX1_join 69 = .ok (.aaload, 1) := by decide +kernel
theorem dX1_join_70 : decode cX1_join 70 = .ok (.getfield 130, 3) := by decide +kernel
theorem dX1_join_73 : decode cX1_join 73 = .ok (.iload_n 2, 1) := by decide +kernel
theorem dX1_join_74 : decode cX1_join 74 = .ok (.invokevirtual 171, 3) := by decide +kernel
theorem dX1_join_77 : decode cX1_join 77 = .ok (.aload_n 0, 1) := by decide +kernel
theorem dX1_join_78 : decode cX1_join 78 = .ok (.aload_n 3, 1) := by decide +kernel
theorem dX1_join_79 : decode cX1_join 79 = .ok (.iload_n 1, 1) := by decide +kernel
theorem dX1_join_80 : decode cX1_join 80 = .ok (.iconst 0, 1) := by decide +kernel
theorem dX1_join_81 : decode cX1_join 81 = .ok (.aload_n 3, 1) := by decide +kernel
theorem dX1_join_82 : decode cX1_join 82 = .ok (.getfield 175, 3) := by decide +kernel
theorem dX1_join_85 : decode cX1_join 85 = .ok (.iconst 1, 1) := by decide +kernel
theorem dX1_join_86 : decode cX1_join 86 = .ok (.invokevirtual 179, 3) := by decide +kernel
theorem dX1_join_89 : decode cX1_join 89 = .ok (.invokevirtual 185, 3) := by decide +kernel
theorem dX1_join_92 : decode cX1_join 92 = .ok (.ireturn, 1) := by decide +kernel
def j_X1_join_38 (M : MM) : Option (Int × MM) :=
  some ((-1), M)
def f_X1_join (x0 x1 x2 : Int) (M : MM) : Option (Int × MM) :=
  ck 1 x0 M <| (f_X1_free x0 M).bind fun v1 =>
  ck 1 x0 M <| (f_X1_has x0 x1 M).bind fun v2 =>
  if w32 v2 = 0 then
    j_X1_join_38 M
  else
    ck 1 x0 M <| (f_X1_has x0 x2 M).bind fun v3 =>
    if w32 v3 = 0 then
      j_X1_join_38 M
    else
      if w32 x1 = w32 x2 then
        j_X1_join_38 M
      else
        ck 1 x0 M <| (f_X1_isLive x0 x1 M).bind fun v4 =>
        if w32 v4 = 0 then
          if v1 = -1 then
            j_X1_join_38 M
          else
            (gfr 1 0 x0 M).bind fun v5 =>
            (gfr 6 5 v5 M).bind fun v6 =>
            (lar 7 v6 x1 M).bind fun v7 =>
            ck 17 v7 M <| (f_X17_live v7 M).bind fun M1 =>
            (gfr 1 0 x0 M1).bind fun v8 =>
            (gfr 6 5 v8 M1).bind fun v9 =>
            (lar 7 v9 x1 M1).bind fun v10 =>
            (gfr 1 0 x0 M1).bind fun v11 =>
            (gfr 6 5 v11 M1).bind fun v12 =>
            (lar 7 v12 x2 M1).bind fun v13 =>
            (gfr 17 2 v13 M1).bind fun v14 =>
            ck 17 v10 M1 <| (f_X17_see v10 v14 x2 M1).bind fun M2 =>
            (gfr 11 8 v1 M2).bind fun v15 =>
            ck 13 v15 M2 <| (f_X13_from v15 1 M2).bind fun r1 =>
            ck 1 x0 r1.2 <| (f_X1_begin x0 v1 x1 0 r1.1 r1.2).bind fun r2 =>
            some (r2.1, r2.2)
        else
          j_X1_join_38 M
theorem s_X1_join_38 {g : GG} {d : Nat} (hD : 215 ≤ d) {M : MM} {o : AV × MM} {P : (Int × MM) → Prop} (r0 : ∀ r : Int × MM, P r → o = ((0, r.1), r.2)) {z : Int × MM} (h : j_X1_join_38 M = some z) (hz : P z) : Sem g d YX1_join 38 [(9, 0), (9, 0), (9, 0), (9, 0)] [] M o := by
  delta j_X1_join_38 at h
  refine S_iconst dX1_join_38 rfl ?_
  obtain rfl := r0 _ (some_P (P := fun r => P r) h hz)
  exact P_ret dX1_join_39 rfl (Or.inl rfl)
theorem s_X1_join_0 {g : GG} {d : Nat} (hD : 215 ≤ d) {x0 x1 x2 : Int} {M : MM} {o : AV × MM} {P : (Int × MM) → Prop} (r0 : ∀ r : Int × MM, P r → o = ((0, r.1), r.2)) {z : Int × MM} (h : f_X1_join x0 x1 x2 M = some z) (hz : P z) : Sem g d YX1_join 0 [(1, x0), (0, x1), (0, x2), (9, 0)] [] M o := by
  delta f_X1_join at h
  refine S_aload_n (i := 0) dX1_join_0 rfl rfl ?_
  refine P_invVp 1 [] [] CVX1_free MLX1_167 dX1_join_1 rfl rfl rfl rfl rfl (by omega) h (fun r h => F_X1_free (by omega) h) (fun v1 h => ?_)
  refine S_astore_n (i := 3) dX1_join_4 rfl (Nat.le_of_ble_eq_true rfl) rfl rfl ?_
  change Sem g d YX1_join 5 [(1, x0), (0, x1), (0, x2), (1, v1)] [] M o
  refine S_aload_n (i := 0) dX1_join_5 rfl rfl ?_
  refine S_iload_n (i := 1) dX1_join_6 rfl rfl ?_
  refine P_invVp 0 [(0, x1)] [] CVX1_has MLX1_113 dX1_join_7 rfl rfl rfl rfl rfl (by omega) h (fun r h => F_X1_has (by omega) h) (fun v2 h => ?_)
  refine P_if_eq (tgt := 38) dX1_join_10 rfl h (fun h => ?_) (fun h => ?_)
  · refine S_weak (ls' := [(9, 0), (9, 0), (9, 0), (9, 0)]) ⟨Or.inl rfl, ⟨Or.inl rfl, ⟨Or.inl rfl, ⟨Or.inl rfl, trivial⟩⟩⟩⟩ ?_
    exact s_X1_join_38 hD r0 h hz
  · refine S_aload_n (i := 0) dX1_join_13 rfl rfl ?_
    refine S_iload_n (i := 2) dX1_join_14 rfl rfl ?_
    refine P_invVp 0 [(0, x2)] [] CVX1_has MLX1_113 dX1_join_15 rfl rfl rfl rfl rfl (by omega) h (fun r h => F_X1_has (by omega) h) (fun v3 h => ?_)
    refine P_if_eq (tgt := 38) dX1_join_18 rfl h (fun h => ?_) (fun h => ?_)
    · refine S_weak (ls' := [(9, 0), (9, 0), (9, 0), (9, 0)]) ⟨Or.inl rfl, ⟨Or.inl rfl, ⟨Or.inl rfl, ⟨Or.inl rfl, trivial⟩⟩⟩⟩ ?_
      exact s_X1_join_38 hD r0 h hz
    · refine S_iload_n (i := 1) dX1_join_21 rfl rfl ?_
      refine S_iload_n (i := 2) dX1_join_22 rfl rfl ?_
      refine P_icmp_eq (tgt := 38) dX1_join_23 rfl h (fun h => ?_) (fun h => ?_)
      · refine S_weak (ls' := [(9, 0), (9, 0), (9, 0), (9, 0)]) ⟨Or.inl rfl, ⟨Or.inl rfl, ⟨Or.inl rfl, ⟨Or.inl rfl, trivial⟩⟩⟩⟩ ?_
        exact s_X1_join_38 hD r0 h hz
      · refine S_aload_n (i := 0) dX1_join_26 rfl rfl ?_
        refine S_iload_n (i := 1) dX1_join_27 rfl rfl ?_
        refine P_invVp 0 [(0, x1)] [] CVX1_isLive MLX1_149 dX1_join_28 rfl rfl rfl rfl rfl (by omega) h (fun r h => F_X1_isLive (by omega) h) (fun v4 h => ?_)
        refine P_if_ne (tgt := 38) dX1_join_31 rfl h (fun h => ?_) (fun h => ?_)
        · refine S_weak (ls' := [(9, 0), (9, 0), (9, 0), (9, 0)]) ⟨Or.inl rfl, ⟨Or.inl rfl, ⟨Or.inl rfl, ⟨Or.inl rfl, trivial⟩⟩⟩⟩ ?_
          exact s_X1_join_38 hD r0 h hz
        · refine S_aload_n (i := 3) dX1_join_34 rfl rfl ?_
          refine P_ifnonnull (tgt := 40) dX1_join_35 rfl h (fun h => ?_) (fun h => ?_)
          · refine S_aload_n (i := 0) dX1_join_40 rfl rfl ?_
            refine P_gfr FLX1_70 rfl dX1_join_41 h (fun v5 h => ?_)
            refine P_gfr FLX1_114 rfl dX1_join_44 h (fun v6 h => ?_)
            refine S_iload_n (i := 1) dX1_join_47 rfl rfl ?_
            refine P_lar (t := 7) ⟨by decide, by decide⟩ dX1_join_48 h (fun v7 h => ?_)
            refine P_invVm' [] [] CVX17_live MLX1_152 dX1_join_49 rfl rfl rfl rfl (by omega) h (fun r h => F_X17_live (by omega) h) (fun M1 h => ?_)
            refine S_aload_n (i := 0) dX1_join_52 rfl rfl ?_
            refine P_gfr FLX1_70 rfl dX1_join_53 h (fun v8 h => ?_)
            refine P_gfr FLX1_114 rfl dX1_join_56 h (fun v9 h => ?_)
            refine S_iload_n (i := 1) dX1_join_59 rfl rfl ?_
            refine P_lar (t := 7) ⟨by decide, by decide⟩ dX1_join_60 h (fun v10 h => ?_)
            refine S_aload_n (i := 0) dX1_join_61 rfl rfl ?_
            refine P_gfr FLX1_70 rfl dX1_join_62 h (fun v11 h => ?_)
            refine P_gfr FLX1_114 rfl dX1_join_65 h (fun v12 h => ?_)
            refine S_iload_n (i := 2) dX1_join_68 rfl rfl ?_
            refine P_lar (t := 7) ⟨by decide, by decide⟩ dX1_join_69 h (fun v13 h => ?_)
            refine P_gfr FLX1_130 rfl dX1_join_70 h (fun v14 h => ?_)
            refine S_iload_n (i := 2) dX1_join_73 rfl rfl ?_
            refine P_invVm' [(1, v14), (0, x2)] [] CVX17_see MLX1_171 dX1_join_74 rfl rfl rfl rfl (by omega) h (fun r h => F_X17_see (by omega) h) (fun M2 h => ?_)
            refine S_aload_n (i := 0) dX1_join_77 rfl rfl ?_
            refine S_aload_n (i := 3) dX1_join_78 rfl rfl ?_
            refine S_iload_n (i := 1) dX1_join_79 rfl rfl ?_
            refine S_iconst dX1_join_80 rfl ?_
            refine S_aload_n (i := 3) dX1_join_81 rfl rfl ?_
            refine P_gfr FLX1_175 rfl dX1_join_82 h (fun v15 h => ?_)
            refine S_iconst dX1_join_85 rfl ?_
            refine P_invVe 1 [(0, 1)] [(0, 0), (0, x1), (1, v1), (1, x0)] CVX13_from MLX1_179 dX1_join_86 rfl rfl rfl rfl rfl (by omega) h (fun r h => F_X13_from (by omega) h) (fun r1 h => ?_)
            refine P_invVe 0 [(1, v1), (0, x1), (0, 0), (1, r1.1)] [] CVX1_begin MLX1_185 dX1_join_89 rfl rfl rfl rfl rfl (by omega) h (fun r h => F_X1_begin (by omega) h) (fun r2 h => ?_)
            obtain rfl := r0 _ (some_P (P := fun r => P r) h hz)
            exact P_ret dX1_join_92 rfl (Or.inl rfl)
          · refine S_weak (ls' := [(9, 0), (9, 0), (9, 0), (9, 0)]) ⟨Or.inl rfl, ⟨Or.inl rfl, ⟨Or.inl rfl, ⟨Or.inl rfl, trivial⟩⟩⟩⟩ ?_
            exact s_X1_join_38 hD r0 h hz
theorem F_X1_join {g : GG} {d : Nat} (hD : 215 ≤ d) {x0 x1 x2 : Int} {M : MM} {r : Int × MM} (h : f_X1_join x0 x1 x2 M = some r) : Sem g d YX1_join 0 (ini YX1_join [(1, x0), (0, x1), (0, x2)]) [] M ((0, r.1), r.2) := by
  change Sem g d YX1_join 0 [(1, x0), (0, x1), (0, x2), (9, 0)] [] M ((0, r.1), r.2)
  exact s_X1_join_0 hD (P := fun x => x = r) (fun q e => by rw [e]) h rfl
/-! PeerSearch.key(II)I -/
theorem dX1_key_0 : decode cX1_key 0 = .ok (.aload_n 0, 1) := by decide +kernel
theorem dX1_key_1 : decode cX1_key 1 = .ok (.iload_n 1, 1) := by decide +kernel
theorem dX1_key_2 : decode cX1_key 2 = .ok (.invokevirtual 113, 3) := by decide +kernel
theorem dX1_key_5 : decode cX1_key 5 = .ok (.ifCond .eq 32, 3) := by decide +kernel
theorem dX1_key_8 : decode cX1_key 8 = .ok (.iload_n 2, 1) := by decide +kernel
theorem dX1_key_9 : decode cX1_key 9 = .ok (.ifCond .lt 28, 3) := by decide +kernel
theorem dX1_key_12 : decode cX1_key 12 = .ok (.iload_n 2, 1) := by decide +kernel
theorem dX1_key_13 : decode cX1_key 13 = .ok (.iconst 5, 1) := by decide +kernel
theorem dX1_key_14 : decode cX1_key 14 = .ok (.if_icmp .ge 23, 3) := by decide +kernel
theorem dX1_key_17 : decode cX1_key 17 = .ok (.aload_n 0, 1) := by decide +kernel
theorem dX1_key_18 : decode cX1_key 18 = .ok (.getfield 70, 3) := by decide +kernel
theorem dX1_key_21 : decode cX1_key 21 = .ok (.getfield 114, 3) := by decide +kernel
theorem dX1_key_24 : decode cX1_key 24 = .ok (.iload_n 1, 1) := by decide +kernel
theorem dX1_key_25 : decode cX1_key 25 = .ok (.aaload, 1) := by decide +kernel
theorem dX1_key_26 : decode cX1_key 26 = .ok (.getfield 130, 3) := by decide +kernel
theorem dX1_key_29 : decode cX1_key 29 = .ok (.getfield 105, 3) := by decide +kernel
theorem dX1_key_32 : decode cX1_key 32 = .ok (.iload_n 2, 1) := by decide +kernel
theorem dX1_key_33 : decode cX1_key 33 = .ok (.iaload, 1) := by decide +kernel
theorem dX1_key_34 : decode cX1_key 34 = .ok (.goto 4, 3) := by decide +kernel
theorem dX1_key_37 : decode cX1_key 37 = .ok (.iconst 0, 1) := by decide +kernel
theorem dX1_key_38 : decode cX1_key 38 = .ok (.ireturn, 1) := by decide +kernel
def j_X1_key_38 (y0 : Int) (M : MM) : Option (Int) :=
  some y0
def j_X1_key_37 (M : MM) : Option (Int) :=
  j_X1_key_38 0 M
def f_X1_key (x0 x1 x2 : Int) (M : MM) : Option (Int) :=
  ck 1 x0 M <| (f_X1_has x0 x1 M).bind fun v1 =>
  if w32 v1 = 0 then
    j_X1_key_37 M
  else
    if w32 x2 < 0 then
      j_X1_key_37 M
    else
      if w32 x2 < w32 5 then
        (gfr 1 0 x0 M).bind fun v2 =>
        (gfr 6 5 v2 M).bind fun v3 =>
        (lar 7 v3 x1 M).bind fun v4 =>
        (gfr 17 2 v4 M).bind fun v5 =>
        (gfr 3 0 v5 M).bind fun v6 =>
        (lai v6 x2 M).bind fun v7 =>
        j_X1_key_38 v7 M
      else
        j_X1_key_37 M
theorem s_X1_key_38 {g : GG} {d : Nat} (hD : 2 ≤ d) {y0 : Int} {M : MM} {o : AV × MM} {P : (Int) → Prop} (r0 : ∀ r : Int, P r → o = ((0, r), M)) {z : Int} (h : j_X1_key_38 y0 M = some z) (hz : P z) : Sem g d YX1_key 38 [(9, 0), (9, 0), (9, 0)] [(0, y0)] M o := by
  delta j_X1_key_38 at h
  obtain rfl := r0 _ (some_P (P := fun r => P r) h hz)
  exact P_ret dX1_key_38 rfl (Or.inl rfl)
theorem s_X1_key_37 {g : GG} {d : Nat} (hD : 2 ≤ d) {M : MM} {o : AV × MM} {P : (Int) → Prop} (r0 : ∀ r : Int, P r → o = ((0, r), M)) {z : Int} (h : j_X1_key_37 M = some z) (hz : P z) : Sem g d YX1_key 37 [(9, 0), (9, 0), (9, 0)] [] M o := by
  delta j_X1_key_37 at h
  refine S_iconst dX1_key_37 rfl ?_
  exact s_X1_key_38 hD r0 h hz
theorem s_X1_key_0 {g : GG} {d : Nat} (hD : 2 ≤ d) {x0 x1 x2 : Int} {M : MM} {o : AV × MM} {P : (Int) → Prop} (r0 : ∀ r : Int, P r → o = ((0, r), M)) {z : Int} (h : f_X1_key x0 x1 x2 M = some z) (hz : P z) : Sem g d YX1_key 0 [(1, x0), (0, x1), (0, x2)] [] M o := by
  delta f_X1_key at h
  refine S_aload_n (i := 0) dX1_key_0 rfl rfl ?_
  refine S_iload_n (i := 1) dX1_key_1 rfl rfl ?_
  refine P_invVp 0 [(0, x1)] [] CVX1_has MLX1_113 dX1_key_2 rfl rfl rfl rfl rfl (by omega) h (fun r h => F_X1_has (by omega) h) (fun v1 h => ?_)
  refine P_if_eq (tgt := 37) dX1_key_5 rfl h (fun h => ?_) (fun h => ?_)
  · refine S_weak (ls' := [(9, 0), (9, 0), (9, 0)]) ⟨Or.inl rfl, ⟨Or.inl rfl, ⟨Or.inl rfl, trivial⟩⟩⟩ ?_
    exact s_X1_key_37 hD r0 h hz
  · refine S_iload_n (i := 2) dX1_key_8 rfl rfl ?_
    refine P_if_lt (tgt := 37) dX1_key_9 rfl h (fun h => ?_) (fun h => ?_)
    · refine S_weak (ls' := [(9, 0), (9, 0), (9, 0)]) ⟨Or.inl rfl, ⟨Or.inl rfl, ⟨Or.inl rfl, trivial⟩⟩⟩ ?_
      exact s_X1_key_37 hD r0 h hz
    · refine S_iload_n (i := 2) dX1_key_12 rfl rfl ?_
      refine S_iconst dX1_key_13 rfl ?_
      refine P_icmp_ge (tgt := 37) dX1_key_14 rfl h (fun h => ?_) (fun h => ?_)
      · refine S_weak (ls' := [(9, 0), (9, 0), (9, 0)]) ⟨Or.inl rfl, ⟨Or.inl rfl, ⟨Or.inl rfl, trivial⟩⟩⟩ ?_
        exact s_X1_key_37 hD r0 h hz
      · refine S_aload_n (i := 0) dX1_key_17 rfl rfl ?_
        refine P_gfr FLX1_70 rfl dX1_key_18 h (fun v2 h => ?_)
        refine P_gfr FLX1_114 rfl dX1_key_21 h (fun v3 h => ?_)
        refine S_iload_n (i := 1) dX1_key_24 rfl rfl ?_
        refine P_lar (t := 7) ⟨by decide, by decide⟩ dX1_key_25 h (fun v4 h => ?_)
        refine P_gfr FLX1_130 rfl dX1_key_26 h (fun v5 h => ?_)
        refine P_gfr FLX1_105 rfl dX1_key_29 h (fun v6 h => ?_)
        refine S_iload_n (i := 2) dX1_key_32 rfl rfl ?_
        refine P_lai dX1_key_33 h (fun v7 h => ?_)
        refine S_goto (tgt := 38) dX1_key_34 rfl ?_
        refine S_weak (ls' := [(9, 0), (9, 0), (9, 0)]) ⟨Or.inl rfl, ⟨Or.inl rfl, ⟨Or.inl rfl, trivial⟩⟩⟩ ?_
        exact s_X1_key_38 hD r0 h hz
theorem F_X1_key {g : GG} {d : Nat} (hD : 2 ≤ d) {x0 x1 x2 : Int} {M : MM} {r : Int} (h : f_X1_key x0 x1 x2 M = some r) : Sem g d YX1_key 0 (ini YX1_key [(1, x0), (0, x1), (0, x2)]) [] M ((0, r), M) := by
  change Sem g d YX1_key 0 [(1, x0), (0, x1), (0, x2)] [] M ((0, r), M)
  exact s_X1_key_0 hD (P := fun x => x = r) (fun q e => by rw [e]) h rfl
/-! PeerSearch.leave(I)Z -/
theorem dX1_leave_0 : decode cX1_leave 0 = .ok (.aload_n 0, 1) := by decide +kernel
theorem dX1_leave_1 : decode cX1_leave 1 = .ok (.iload_n 1, 1) := by decide +kernel
theorem dX1_leave_2 : decode cX1_leave 2 = .ok (.invokevirtual 149, 3) := by decide +kernel
theorem dX1_leave_5 : decode cX1_leave 5 = .ok (.ifCond .ne 5, 3) := by decide +kernel
theorem dX1_leave_8 : decode cX1_leave 8 = .ok (.iconst 0, 1) := by decide +kernel
theorem dX1_leave_9 : decode cX1_leave 9 = .ok (.ireturn, 1) := by decide +kernel
theorem dX1_leave_10 : decode cX1_leave 10 = .ok (.aload_n 0, 1) := by decide +kernel
theorem dX1_leave_11 : decode cX1_leave 11 = .ok (.getfield 70, 3) := by decide +kernel
theorem dX1_leave_14 : decode cX1_leave 14 = .ok (.getfield 114, 3) := by decide +kernel
theorem dX1_leave_17 : decode cX1_leave 17 = .ok (.iload_n 1, 1) := by decide +kernel
theorem dX1_leave_18 : decode cX1_leave 18 = .ok (.aaload, 1) := by decide +kernel
theorem dX1_leave_19 : decode cX1_leave 19 = .ok (.astore_n 2, 1) := by decide +kernel
theorem dX1_leave_20 : decode cX1_leave 20 = .ok (.aload_n 2, 1) := by decide +kernel
theorem dX1_leave_21 : decode cX1_leave 21 = .ok (.getfield 206, 3) := by decide +kernel
theorem dX1_leave_24 : decode cX1_leave 24 = .ok (.iconst 0, 1) := by decide +kernel
theorem dX1_leave_25 : decode cX1_leave 25 = .ok (.iconst 0, 1) := by decide +kernel
theorem dX1_leave_26 : decode cX1_leave 26 = .ok (.invokevirtual 210, 3) := by decide +kernel
theorem dX1_leave_29 : decode cX1_leave 29 = .ok (.astore_n 3, 1) := by decide +kernel
theorem dX1_leave_30 : decode cX1_leave 30 = .ok (.iconst 1, 1) := by decide +kernel
theorem dX1_leave_31 : decode cX1_leave 31 = .ok (.istore 4, 2) := by decide +kernel
theorem dX1_leave_33 : decode cX1_leave 33 = .ok (.aload_n 3, 1) := by decide +kernel
theorem dX1_leave_34 : decode cX1_leave 34 = .ok (.ifnull 34, 3) := by decide +kernel
theorem dX1_leave_37 : decode cX1_leave 37 = .ok (.aload_n 2, 1) := by decide +kernel
theorem dX1_leave_38 : decode cX1_leave 38 = .ok (.aload_n 3, 1) := by decide +kernel
theorem dX1_leave_39 : decode cX1_leave 39 = .ok (.getfield 216, 3) := by decide +kernel
theorem dX1_leave_42 : decode cX1_leave 42 = .ok (.aload_n 2, 1) := by decide +kernel
theorem dX1_leave_43 : decode cX1_leave 43 = .ok (.bipush 15, 2) := by decide +kernel
theorem dX1_leave_45 : decode cX1_leave 45 = .ok (.invokevirtual 221, 3) := by decide +kernel
theorem dX1_leave_48 : decode cX1_leave 48 = .ok (.invokevirtual 224, 3) := by decide +kernel
theorem dX1_leave_51 : decode cX1_leave 51 = .ok (.aload_n 2, 1) := by decide +kernel
theorem dX1_leave_52 : decode cX1_leave 52 = .ok (.getfield 206, 3) := by decide +kernel
theorem dX1_leave_55 : decode cX1_leave 55 = .ok (.iconst 0, 1) := by decide +kernel
theorem dX1_leave_56 : decode cX1_leave 56 = .ok (.iload 4, 2) := by decide +kernel
theorem dX1_leave_58 : decode cX1_leave 58 = .ok (.invokevirtual 210, 3) := by decide +kernel
theorem dX1_leave_61 : decode cX1_leave 61 = .ok (.astore_n 3, 1) := by decide +kernel
theorem dX1_leave_62 : decode cX1_leave 62 = .ok (.iinc 4 1, 3) := by decide +kernel
theorem dX1_leave_65 : decode cX1_leave 65 = .ok (.goto (-32), 3) := by decide +kernel
theorem dX1_leave_68 : decode cX1_leave 68 = .ok (.aload_n 0, 1) := by decide +kernel
theorem dX1_leave_69 : decode cX1_leave 69 = .ok (.aload_n 2, 1) := by decide +kernel
theorem dX1_leave_70 : decode cX1_leave 70 = .ok (.invokevirtual 202, 3) := by decide +kernel
theorem dX1_leave_73 : decode cX1_leave 73 = .ok (.iconst 1, 1) := by decide +kernel
theorem dX1_leave_74 : decode cX1_leave 74 = .ok (.ireturn, 1) := by decide +kernel
def j_X1_leave_68 (x0 x2 : Int) (M : MM) : Option (Int × MM) :=
  ck 1 x0 M <| (f_X1_drop x0 x2 M).bind fun M1 =>
  some (1, M1)
def b_X1_leave_33 (x0 x2 x3 x4 : Int) (M : MM) : Option ((Int × Int × MM) ⊕ (Int × MM)) :=
  if x3 = -1 then
    xit (j_X1_leave_68 x0 x2 M)
  else
    (gfi 23 1 x3 M).bind fun v1 =>
    ck 17 x2 M <| (f_X17_begin x2 15 M).bind fun r1 =>
    ck 17 x2 r1.2 <| (f_X17_send x2 v1 r1.1 r1.2).bind fun M1 =>
    (gfr 17 5 x2 M1).bind fun v2 =>
    ck 20 v2 M1 <| (f_X20_contact v2 0 x4 M1).bind fun v3 =>
    cnt (v3, x4 + 1, M1)
def l_X1_leave_33 (x0 x2 x3 x4 : Int) (M : MM) : Option (Int × MM) := lpN (fun s : Int × Int × MM => b_X1_leave_33 x0 x2 s.1 s.2.1 s.2.2) FU (x3, x4, M)
def f_X1_leave (x0 x1 : Int) (M : MM) : Option (Int × MM) :=
  ck 1 x0 M <| (f_X1_isLive x0 x1 M).bind fun v1 =>
  if w32 v1 = 0 then
    some (0, M)
  else
    (gfr 1 0 x0 M).bind fun v2 =>
    (gfr 6 5 v2 M).bind fun v3 =>
    (lar 7 v3 x1 M).bind fun v4 =>
    (gfr 17 5 v4 M).bind fun v5 =>
    ck 20 v5 M <| (f_X20_contact v5 0 0 M).bind fun v6 =>
    l_X1_leave_33 x0 v4 v6 1 M
theorem s_X1_leave_68 {g : GG} {d : Nat} (hD : 7 ≤ d) {x0 x2 : Int} {M : MM} {o : AV × MM} {P : (Int × MM) → Prop} (r0 : ∀ r : Int × MM, P r → o = ((0, r.1), r.2)) {z : Int × MM} (h : j_X1_leave_68 x0 x2 M = some z) (hz : P z) : Sem g d YX1_leave 68 [(1, x0), (9, 0), (1, x2), (9, 0), (9, 0)] [] M o := by
  delta j_X1_leave_68 at h
  refine S_aload_n (i := 0) dX1_leave_68 rfl rfl ?_
  refine S_aload_n (i := 2) dX1_leave_69 rfl rfl ?_
  refine P_invVm' [(1, x2)] [] CVX1_drop MLX1_202 dX1_leave_70 rfl rfl rfl rfl (by omega) h (fun r h => F_X1_drop (by omega) h) (fun M1 h => ?_)
  refine S_iconst dX1_leave_73 rfl ?_
  obtain rfl := r0 _ (some_P (P := fun r => P r) h hz)
  exact P_ret dX1_leave_74 rfl (Or.inr ⟨rfl, Or.inr rfl⟩)
theorem s_X1_leave_33 {g : GG} {d : Nat} (hD : 7 ≤ d) {x0 x2 x3 x4 : Int} {M : MM} {o : AV × MM} {P : ((Int × Int × MM) ⊕ (Int × MM)) → Prop} (c0 : ∀ s : Int × Int × MM, P (.inl s) → Sem g d YX1_leave 33 [(1, x0), (9, 0), (1, x2), (1, s.1), (0, s.2.1)] [] s.2.2 o) (r0 : ∀ r : Int × MM, P (.inr r) → o = ((0, r.1), r.2)) {z : (Int × Int × MM) ⊕ (Int × MM)} (h : b_X1_leave_33 x0 x2 x3 x4 M = some z) (hz : P z) : Sem g d YX1_leave 33 [(1, x0), (9, 0), (1, x2), (1, x3), (0, x4)] [] M o := by
  delta b_X1_leave_33 at h
  refine S_aload_n (i := 3) dX1_leave_33 rfl rfl ?_
  refine P_ifnull (tgt := 68) dX1_leave_34 rfl h (fun h => ?_) (fun h => ?_)
  · refine S_weak (ls' := [(1, x0), (9, 0), (1, x2), (9, 0), (9, 0)]) ⟨Or.inr rfl, ⟨Or.inl rfl, ⟨Or.inr rfl, ⟨Or.inl rfl, ⟨Or.inl rfl, trivial⟩⟩⟩⟩⟩ ?_
    obtain ⟨z0, h, hz⟩ := xit_some' (P := fun r => P r) h hz
    exact s_X1_leave_68 hD (P := fun r => P (.inr r)) r0 h hz
  · refine S_aload_n (i := 2) dX1_leave_37 rfl rfl ?_
    refine S_aload_n (i := 3) dX1_leave_38 rfl rfl ?_
    refine P_gfi FLX1_216 rfl dX1_leave_39 h (fun v1 h => ?_)
    refine S_aload_n (i := 2) dX1_leave_42 rfl rfl ?_
    refine S_bipush (z := 15) dX1_leave_43 rfl ?_
    refine P_invVe 1 [(0, 15)] [(0, v1), (1, x2)] CVX17_begin MLX1_221 dX1_leave_45 rfl rfl rfl rfl rfl (by omega) h (fun r h => F_X17_begin (by omega) h) (fun r1 h => ?_)
    refine P_invVm' [(0, v1), (1, r1.1)] [] CVX17_send MLX1_224 dX1_leave_48 rfl rfl rfl rfl (by omega) h (fun r h => F_X17_send (by omega) h) (fun M1 h => ?_)
    refine S_aload_n (i := 2) dX1_leave_51 rfl rfl ?_
    refine P_gfr FLX1_206 rfl dX1_leave_52 h (fun v2 h => ?_)
    refine S_iconst dX1_leave_55 rfl ?_
    refine S_iload dX1_leave_56 rfl ?_
    refine P_invVp 1 [(0, 0), (0, x4)] [] CVX20_contact MLX1_210 dX1_leave_58 rfl rfl rfl rfl rfl (by omega) h (fun r h => F_X20_contact (by omega) h) (fun v3 h => ?_)
    refine S_astore_n (i := 3) dX1_leave_61 rfl (Nat.le_of_ble_eq_true rfl) rfl rfl ?_
    change Sem g d YX1_leave 62 [(1, x0), (9, 0), (1, x2), (1, v3), (0, x4)] [] M1 o
    refine S_iinc dX1_leave_62 rfl rfl rfl ?_
    change Sem g d YX1_leave 65 [(1, x0), (9, 0), (1, x2), (1, v3), (0, x4 + 1)] [] M1 o
    refine S_goto (tgt := 33) dX1_leave_65 rfl ?_
    exact c0 (v3, x4 + 1, M1) (some_P (P := fun r => P r) h hz)
theorem sl_X1_leave_33 {g : GG} {d : Nat} (hD : 7 ≤ d) {x0 x2 x3 x4 : Int} {M : MM} {o : AV × MM} {P : (Int × MM) → Prop} (r0 : ∀ r : Int × MM, P r → o = ((0, r.1), r.2)) {z : Int × MM} (h : l_X1_leave_33 x0 x2 x3 x4 M = some z) (hz : P z) : Sem g d YX1_leave 33 [(1, x0), (9, 0), (1, x2), (1, x3), (0, x4)] [] M o := by
  refine lp_sound (S := fun s : Int × Int × MM => Sem g d YX1_leave 33 [(1, x0), (9, 0), (1, x2), (1, s.1), (0, s.2.1)] [] s.2.2 o) (P := P) ?_ FU (x3, x4, M) z h hz
  intro s x hx hP
  exact s_X1_leave_33 hD (P := Sum.elim (fun s : Int × Int × MM => Sem g d YX1_leave 33 [(1, x0), (9, 0), (1, x2), (1, s.1), (0, s.2.1)] [] s.2.2 o) P) (fun s h => h) (fun s h => r0 s h) hx hP
theorem s_X1_leave_0 {g : GG} {d : Nat} (hD : 7 ≤ d) {x0 x1 : Int} {M : MM} {o : AV × MM} {P : (Int × MM) → Prop} (r0 : ∀ r : Int × MM, P r → o = ((0, r.1), r.2)) {z : Int × MM} (h : f_X1_leave x0 x1 M = some z) (hz : P z) : Sem g d YX1_leave 0 [(1, x0), (0, x1), (9, 0), (9, 0), (9, 0)] [] M o := by
  delta f_X1_leave at h
  refine S_aload_n (i := 0) dX1_leave_0 rfl rfl ?_
  refine S_iload_n (i := 1) dX1_leave_1 rfl rfl ?_
  refine P_invVp 0 [(0, x1)] [] CVX1_isLive MLX1_149 dX1_leave_2 rfl rfl rfl rfl rfl (by omega) h (fun r h => F_X1_isLive (by omega) h) (fun v1 h => ?_)
  refine P_if_ne (tgt := 10) dX1_leave_5 rfl h (fun h => ?_) (fun h => ?_)
  · refine S_aload_n (i := 0) dX1_leave_10 rfl rfl ?_
    refine P_gfr FLX1_70 rfl dX1_leave_11 h (fun v2 h => ?_)
    refine P_gfr FLX1_114 rfl dX1_leave_14 h (fun v3 h => ?_)
    refine S_iload_n (i := 1) dX1_leave_17 rfl rfl ?_
    refine P_lar (t := 7) ⟨by decide, by decide⟩ dX1_leave_18 h (fun v4 h => ?_)
    refine S_astore_n (i := 2) dX1_leave_19 rfl (Nat.le_of_ble_eq_true rfl) rfl rfl ?_
    change Sem g d YX1_leave 20 [(1, x0), (0, x1), (1, v4), (9, 0), (9, 0)] [] M o
    refine S_aload_n (i := 2) dX1_leave_20 rfl rfl ?_
    refine P_gfr FLX1_206 rfl dX1_leave_21 h (fun v5 h => ?_)
    refine S_iconst dX1_leave_24 rfl ?_
    refine S_iconst dX1_leave_25 rfl ?_
    refine P_invVp 1 [(0, 0), (0, 0)] [] CVX20_contact MLX1_210 dX1_leave_26 rfl rfl rfl rfl rfl (by omega) h (fun r h => F_X20_contact (by omega) h) (fun v6 h => ?_)
    refine S_astore_n (i := 3) dX1_leave_29 rfl (Nat.le_of_ble_eq_true rfl) rfl rfl ?_
    change Sem g d YX1_leave 30 [(1, x0), (0, x1), (1, v4), (1, v6), (9, 0)] [] M o
    refine S_iconst dX1_leave_30 rfl ?_
    refine S_istore dX1_leave_31 (Nat.le_of_ble_eq_true rfl) rfl rfl ?_
    change Sem g d YX1_leave 33 [(1, x0), (0, x1), (1, v4), (1, v6), (0, 1)] [] M o
    refine S_weak (ls' := [(1, x0), (9, 0), (1, v4), (1, v6), (0, 1)]) ⟨Or.inr rfl, ⟨Or.inl rfl, ⟨Or.inr rfl, ⟨Or.inr rfl, ⟨Or.inr rfl, trivial⟩⟩⟩⟩⟩ ?_
    exact sl_X1_leave_33 hD r0 h hz
  · refine S_iconst dX1_leave_8 rfl ?_
    obtain rfl := r0 _ (some_P (P := fun r => P r) h hz)
    exact P_ret dX1_leave_9 rfl (Or.inr ⟨rfl, Or.inl rfl⟩)
theorem F_X1_leave {g : GG} {d : Nat} (hD : 7 ≤ d) {x0 x1 : Int} {M : MM} {r : Int × MM} (h : f_X1_leave x0 x1 M = some r) : Sem g d YX1_leave 0 (ini YX1_leave [(1, x0), (0, x1)]) [] M ((0, r.1), r.2) := by
  change Sem g d YX1_leave 0 [(1, x0), (0, x1), (9, 0), (9, 0), (9, 0)] [] M ((0, r.1), r.2)
  exact s_X1_leave_0 hD (P := fun x => x = r) (fun q e => by rw [e]) h rfl
/-! PeerSearch.going()I -/
theorem dX1_going_0 : decode cX1_going 0 = .ok (.iconst 0, 1) := by decide +kernel
theorem dX1_going_1 : decode cX1_going 1 = .ok (.istore_n 1, 1) := by decide +kernel
theorem dX1_going_2 : decode cX1_going 2 = .ok (.iconst 0, 1) := by decide +kernel
theorem dX1_going_3 : decode cX1_going 3 = .ok (.istore_n 2, 1) := by decide +kernel
theorem dX1_going_4 : decode cX1_going 4 = .ok (.iload_n 2, 1) := by decide +kernel
theorem dX1_going_5 : decode cX1_going 5 = .ok (.bipush 12, 2) := by decide +kernel
theorem dX1_going_7 : decode cX1_going 7 = .ok (.if_icmp .ge 29, 3) := by decide +kernel
theorem dX1_going_10 : decode cX1_going 10 = .ok (.iload_n 1, 1) := by decide +kernel
theorem dX1_going_11 : decode cX1_going 11 = .ok (.aload_n 0, 1) := by decide +kernel
theorem dX1_going_12 : decode cX1_going 12 = .ok (.getfield 21, 3) := by decide +kernel
theorem dX1_going_15 : decode cX1_going 15 = .ok (.iload_n 2, 1) := by decide +kernel
theorem dX1_going_16 : decode cX1_going 16 = .ok (.aaload, 1) := by decide +kernel
theorem dX1_going_17 : decode cX1_going 17 = .ok (.getfield 158, 3) := by decide +kernel
theorem dX1_going_20 : decode cX1_going 20 = .ok (.ifCond .eq 7, 3) := by decide +kernel
theorem dX1_going_23 : decode cX1_going 23 = .ok (.iconst 1, 1) := by decide +kernel
theorem dX1_going_24 : decode cX1_going 24 = .ok (.goto 4, 3) := by decide +kernel
theorem dX1_going_27 : decode cX1_going 27 = .ok (.iconst 0, 1) := by decide +kernel
theorem dX1_going_28 : decode cX1_going 28 = .ok (.iadd, 1) := by decide +kernel
theorem dX1_going_29 : decode cX1_going 29 = .ok (.istore_n 1, 1) := by decide +kernel
theorem dX1_going_30 : decode cX1_going 30 = .ok (.iinc 2 1, 3) := by decide +kernel
theorem dX1_going_33 : decode cX1_going 33 = .ok (.goto (-29), 3) := by decide +kernel
theorem dX1_going_36 : decode cX1_going 36 = .ok (.iload_n 1, 1) := by decide +kernel
theorem dX1_going_37 : decode cX1_going 37 = .ok (.ireturn, 1) := by decide +kernel
def j_X1_going_28 (x0 x2 y0 y1 : Int) (M : MM) : Option ((Int × Int) ⊕ (Int)) :=
  cnt (y0 + y1, x2 + 1)
def b_X1_going_4 (x0 x1 x2 : Int) (M : MM) : Option ((Int × Int) ⊕ (Int)) :=
  if w32 x2 < w32 12 then
    (gfr 1 6 x0 M).bind fun v1 =>
    (lar 3 v1 x2 M).bind fun v2 =>
    (gfi 11 6 v2 M).bind fun v3 =>
    if w32 v3 = 0 then
      j_X1_going_28 x0 x2 x1 0 M
    else
      j_X1_going_28 x0 x2 x1 1 M
  else
    xit (some x1)
def l_X1_going_4 (x0 x1 x2 : Int) (M : MM) : Option (Int) := lpN (fun s : Int × Int => b_X1_going_4 x0 s.1 s.2 M) FU (x1, x2)
def f_X1_going (x0 : Int) (M : MM) : Option (Int) :=
  l_X1_going_4 x0 0 0 M
theorem s_X1_going_28 {g : GG} {d : Nat} (hD : 0 ≤ d) {x0 x2 y0 y1 : Int} {M : MM} {o : AV × MM} {P : ((Int × Int) ⊕ (Int)) → Prop} (c0 : ∀ s : Int × Int, P (.inl s) → Sem g d YX1_going 4 [(1, x0), (0, s.1), (0, s.2)] [] M o) (r0 : ∀ r : Int, P (.inr r) → o = ((0, r), M)) {z : (Int × Int) ⊕ (Int)} (h : j_X1_going_28 x0 x2 y0 y1 M = some z) (hz : P z) : Sem g d YX1_going 28 [(1, x0), (9, 0), (0, x2)] [(0, y1), (0, y0)] M o := by
  delta j_X1_going_28 at h
  refine S_iadd dX1_going_28 ?_
  refine S_istore_n (i := 1) dX1_going_29 rfl (Nat.le_of_ble_eq_true rfl) rfl rfl ?_
  change Sem g d YX1_going 30 [(1, x0), (0, y0 + y1), (0, x2)] [] M o
  refine S_iinc dX1_going_30 rfl rfl rfl ?_
  change Sem g d YX1_going 33 [(1, x0), (0, y0 + y1), (0, x2 + 1)] [] M o
  refine S_goto (tgt := 4) dX1_going_33 rfl ?_
  exact c0 (y0 + y1, x2 + 1) (some_P (P := fun r => P r) h hz)
theorem s_X1_going_4 {g : GG} {d : Nat} (hD : 0 ≤ d) {x0 x1 x2 : Int} {M : MM} {o : AV × MM} {P : ((Int × Int) ⊕ (Int)) → Prop} (c0 : ∀ s : Int × Int, P (.inl s) → Sem g d YX1_going 4 [(1, x0), (0, s.1), (0, s.2)] [] M o) (r0 : ∀ r : Int, P (.inr r) → o = ((0, r), M)) {z : (Int × Int) ⊕ (Int)} (h : b_X1_going_4 x0 x1 x2 M = some z) (hz : P z) : Sem g d YX1_going 4 [(1, x0), (0, x1), (0, x2)] [] M o := by
  delta b_X1_going_4 at h
  refine S_iload_n (i := 2) dX1_going_4 rfl rfl ?_
  refine S_bipush (z := 12) dX1_going_5 rfl ?_
  refine P_icmp_ge (tgt := 36) dX1_going_7 rfl h (fun h => ?_) (fun h => ?_)
  · obtain ⟨z0, h, hz⟩ := xit_some' (P := fun r => P r) h hz
    refine S_iload_n (i := 1) dX1_going_36 rfl rfl ?_
    obtain rfl := r0 _ (some_P (P := fun r => P (.inr r)) h hz)
    exact P_ret dX1_going_37 rfl (Or.inl rfl)
  · refine S_iload_n (i := 1) dX1_going_10 rfl rfl ?_
    refine S_aload_n (i := 0) dX1_going_11 rfl rfl ?_
    refine P_gfr FLX1_21 rfl dX1_going_12 h (fun v1 h => ?_)
    refine S_iload_n (i := 2) dX1_going_15 rfl rfl ?_
    refine P_lar (t := 3) ⟨by decide, by decide⟩ dX1_going_16 h (fun v2 h => ?_)
    refine P_gfi FLX1_158 rfl dX1_going_17 h (fun v3 h => ?_)
    refine P_if_eq (tgt := 27) dX1_going_20 rfl h (fun h => ?_) (fun h => ?_)
    · refine S_iconst dX1_going_27 rfl ?_
      refine S_weak (ls' := [(1, x0), (9, 0), (0, x2)]) ⟨Or.inr rfl, ⟨Or.inl rfl, ⟨Or.inr rfl, trivial⟩⟩⟩ ?_
      exact s_X1_going_28 hD c0 r0 h hz
    · refine S_iconst dX1_going_23 rfl ?_
      refine S_goto (tgt := 28) dX1_going_24 rfl ?_
      refine S_weak (ls' := [(1, x0), (9, 0), (0, x2)]) ⟨Or.inr rfl, ⟨Or.inl rfl, ⟨Or.inr rfl, trivial⟩⟩⟩ ?_
      exact s_X1_going_28 hD c0 r0 h hz
theorem sl_X1_going_4 {g : GG} {d : Nat} (hD : 0 ≤ d) {x0 x1 x2 : Int} {M : MM} {o : AV × MM} {P : (Int) → Prop} (r0 : ∀ r : Int, P r → o = ((0, r), M)) {z : Int} (h : l_X1_going_4 x0 x1 x2 M = some z) (hz : P z) : Sem g d YX1_going 4 [(1, x0), (0, x1), (0, x2)] [] M o := by
  refine lp_sound (S := fun s : Int × Int => Sem g d YX1_going 4 [(1, x0), (0, s.1), (0, s.2)] [] M o) (P := P) ?_ FU (x1, x2) z h hz
  intro s x hx hP
  exact s_X1_going_4 hD (P := Sum.elim (fun s : Int × Int => Sem g d YX1_going 4 [(1, x0), (0, s.1), (0, s.2)] [] M o) P) (fun s h => h) (fun s h => r0 s h) hx hP
theorem s_X1_going_0 {g : GG} {d : Nat} (hD : 0 ≤ d) {x0 : Int} {M : MM} {o : AV × MM} {P : (Int) → Prop} (r0 : ∀ r : Int, P r → o = ((0, r), M)) {z : Int} (h : f_X1_going x0 M = some z) (hz : P z) : Sem g d YX1_going 0 [(1, x0), (9, 0), (9, 0)] [] M o := by
  delta f_X1_going at h
  refine S_iconst dX1_going_0 rfl ?_
  refine S_istore_n (i := 1) dX1_going_1 rfl (Nat.le_of_ble_eq_true rfl) rfl rfl ?_
  change Sem g d YX1_going 2 [(1, x0), (0, 0), (9, 0)] [] M o
  refine S_iconst dX1_going_2 rfl ?_
  refine S_istore_n (i := 2) dX1_going_3 rfl (Nat.le_of_ble_eq_true rfl) rfl rfl ?_
  change Sem g d YX1_going 4 [(1, x0), (0, 0), (0, 0)] [] M o
  exact sl_X1_going_4 hD r0 h hz
theorem F_X1_going {g : GG} {d : Nat} (hD : 0 ≤ d) {x0 : Int} {M : MM} {r : Int} (h : f_X1_going x0 M = some r) : Sem g d YX1_going 0 (ini YX1_going [(1, x0)]) [] M ((0, r), M) := by
  change Sem g d YX1_going 0 [(1, x0), (9, 0), (9, 0)] [] M ((0, r), M)
  exact s_X1_going_0 hD (P := fun x => x = r) (fun q e => by rw [e]) h rfl
/-! PeerSearch.look(I)I -/
theorem dX1_look_0 : decode cX1_look 0 = .ok (.iload_n 1, 1) := by decide +kernel
theorem dX1_look_1 : decode cX1_look 1 = .ok (.tableswitch 95 0 6 #[43, 51, 59, 67, 72, 77, 85], 43) := by decide +kernel
theorem dX1_look_44 : decode cX1_look 44 = .ok (.aload_n 0, 1) := by decide +kernel
theorem dX1_look_45 : decode cX1_look 45 = .ok (.getfield 78, 3) := by decide +kernel
theorem dX1_look_48 : decode cX1_look 48 = .ok (.getfield 295, 3) := by decide +kernel
theorem dX1_look_51 : decode cX1_look 51 = .ok (.ireturn, 1) := by decide +kernel
theorem dX1_look_52 : decode cX1_look 52 = .ok (.aload_n 0, 1) := by decide +kernel
theorem dX1_look_53 : decode cX1_look 53 = .ok (.getfield 78, 3) := by decide +kernel
theorem dX1_look_56 : decode cX1_look 56 = .ok (.getfield 339, 3) := by decide +kernel
theorem dX1_look_59 : decode cX1_look 59 = .ok (.ireturn, 1) := by decide +kernel
theorem dX1_look_60 : decode cX1_look 60 = .ok (.aload_n 0, 1) := by decide +kernel
theorem dX1_look_61 : decode cX1_look 61 = .ok (.getfield 78, 3) := by decide +kernel
theorem dX1_look_64 : decode cX1_look 64 = .ok (.getfield 423, 3) := by decide +kernel
theorem dX1_look_67 : decode cX1_look 67 = .ok (.ireturn, 1) := by decide +kernel
theorem dX1_look_68 : decode cX1_look 68 = .ok (.aload_n 0, 1) := by decide +kernel
theorem dX1_look_69 : decode cX1_look 69 = .ok (.getfield 155, 3) := by decide +kernel
theorem dX1_look_72 : decode cX1_look 72 = .ok (.ireturn, 1) := by decide +kernel
theorem dX1_look_73 : decode cX1_look 73 = .ok (.aload_n 0, 1) := by decide +kernel
theorem dX1_look_74 : decode cX1_look 74 = .ok (.invokevirtual 340, 3) := by decide +kernel
theorem dX1_look_77 : decode cX1_look 77 = .ok (.ireturn, 1) := by decide +kernel
theorem dX1_look_78 : decode cX1_look 78 = .ok (.aload_n 0, 1) := by decide +kernel
theorem dX1_look_79 : decode cX1_look 79 = .ok (.getfield 70, 3) := by decide +kernel
theorem dX1_look_82 : decode cX1_look 82 = .ok (.getfield 127, 3) := by decide +kernel
theorem dX1_look_85 : decode cX1_look 85 = .ok (.ireturn, 1) := by decide +kernel
theorem dX1_look_86 : decode cX1_look 86 = .ok (.aload_n 0, 1) := by decide +kernel
theorem dX1_look_87 : decode cX1_look 87 = .ok (.getfield 78, 3) := by decide +kernel
theorem dX1_look_90 : decode cX1_look 90 = .ok (.bipush 10, 2) := by decide +kernel
theorem dX1_look_92 : decode cX1_look 92 = .ok (.invokevirtual 303, 3) := by decide +kernel
theorem dX1_look_95 : decode cX1_look 95 = .ok (.ireturn, 1) := by decide +kernel
theorem dX1_look_96 : decode cX1_look 96 = .ok (.iconst (-1), 1) := by decide +kernel
theorem dX1_look_97 : decode cX1_look 97 = .ok (.ireturn, 1) := by decide +kernel
def f_X1_look (x0 x1 : Int) (M : MM) : Option (Int) :=
  swt (w32 x1) 0 [
    (
    (gfr 1 1 x0 M).bind fun v1 =>
    (gfi 7 3 v1 M).bind fun v2 =>
    some v2
    ),
    (
    (gfr 1 1 x0 M).bind fun v3 =>
    (gfi 7 2 v3 M).bind fun v4 =>
    some v4
    ),
    (
    (gfr 1 1 x0 M).bind fun v5 =>
    (gfi 7 4 v5 M).bind fun v6 =>
    some v6
    ),
    (
    (gfi 1 8 x0 M).bind fun v7 =>
    some v7
    ),
    (
    ck 1 x0 M <| (f_X1_going x0 M).bind fun v8 =>
    some v8
    ),
    (
    (gfr 1 0 x0 M).bind fun v9 =>
    (gfi 6 6 v9 M).bind fun v10 =>
    some v10
    ),
    (
    (gfr 1 1 x0 M).bind fun v11 =>
    ck 7 v11 M <| (f_X7_setting v11 10 M).bind fun v12 =>
    some v12
    )
    ] (
    some (-1)
    )
theorem s_X1_look_0 {g : GG} {d : Nat} (hD : 1 ≤ d) {x0 x1 : Int} {M : MM} {o : AV × MM} {P : (Int) → Prop} (r0 : ∀ r : Int, P r → o = ((0, r), M)) {z : Int} (h : f_X1_look x0 x1 M = some z) (hz : P z) : Sem g d YX1_look 0 [(1, x0), (0, x1)] [] M o := by
  delta f_X1_look at h
  refine S_iload_n (i := 1) dX1_look_0 rfl rfl ?_
  refine P_swt [44, 52, 60, 68, 73, 78, 86] 96 dX1_look_1 rfl rfl rfl rfl h ?_ (fun h => ?_)
  · intro i X hX h t ht
    rcases i with _ | i
    · have e1 := Option.some.inj hX
      have e2 := Option.some.inj ht
      subst e1
      subst e2
      refine S_aload_n (i := 0) dX1_look_44 rfl rfl ?_
      refine P_gfr FLX1_78 rfl dX1_look_45 h (fun v1 h => ?_)
      refine P_gfi FLX1_295 rfl dX1_look_48 h (fun v2 h => ?_)
      obtain rfl := r0 _ (some_P (P := fun r => P r) h hz)
      exact P_ret dX1_look_51 rfl (Or.inl rfl)
    rcases i with _ | i
    · have e1 := Option.some.inj hX
      have e2 := Option.some.inj ht
      subst e1
      subst e2
      refine S_aload_n (i := 0) dX1_look_52 rfl rfl ?_
      refine P_gfr FLX1_78 rfl dX1_look_53 h (fun v3 h => ?_)
      refine P_gfi FLX1_339 rfl dX1_look_56 h (fun v4 h => ?_)
      obtain rfl := r0 _ (some_P (P := fun r => P r) h hz)
      exact P_ret dX1_look_59 rfl (Or.inl rfl)
    rcases i with _ | i
    · have e1 := Option.some.inj hX
      have e2 := Option.some.inj ht
      subst e1
      subst e2
      refine S_aload_n (i := 0) dX1_look_60 rfl rfl ?_
      refine P_gfr FLX1_78 rfl dX1_look_61 h (fun v5 h => ?_)
      refine P_gfi FLX1_423 rfl dX1_look_64 h (fun v6 h => ?_)
      obtain rfl := r0 _ (some_P (P := fun r => P r) h hz)
      exact P_ret dX1_look_67 rfl (Or.inl rfl)
    rcases i with _ | i
    · have e1 := Option.some.inj hX
      have e2 := Option.some.inj ht
      subst e1
      subst e2
      refine S_aload_n (i := 0) dX1_look_68 rfl rfl ?_
      refine P_gfi FLX1_155 rfl dX1_look_69 h (fun v7 h => ?_)
      obtain rfl := r0 _ (some_P (P := fun r => P r) h hz)
      exact P_ret dX1_look_72 rfl (Or.inl rfl)
    rcases i with _ | i
    · have e1 := Option.some.inj hX
      have e2 := Option.some.inj ht
      subst e1
      subst e2
      refine S_aload_n (i := 0) dX1_look_73 rfl rfl ?_
      refine P_invVp 0 [] [] CVX1_going MLX1_340 dX1_look_74 rfl rfl rfl rfl rfl (by omega) h (fun r h => F_X1_going (by omega) h) (fun v8 h => ?_)
      obtain rfl := r0 _ (some_P (P := fun r => P r) h hz)
      exact P_ret dX1_look_77 rfl (Or.inl rfl)
    rcases i with _ | i
    · have e1 := Option.some.inj hX
      have e2 := Option.some.inj ht
      subst e1
      subst e2
      refine S_aload_n (i := 0) dX1_look_78 rfl rfl ?_
      refine P_gfr FLX1_70 rfl dX1_look_79 h (fun v9 h => ?_)
      refine P_gfi FLX1_127 rfl dX1_look_82 h (fun v10 h => ?_)
      obtain rfl := r0 _ (some_P (P := fun r => P r) h hz)
      exact P_ret dX1_look_85 rfl (Or.inl rfl)
    rcases i with _ | i
    · have e1 := Option.some.inj hX
      have e2 := Option.some.inj ht
      subst e1
      subst e2
      refine S_aload_n (i := 0) dX1_look_86 rfl rfl ?_
      refine P_gfr FLX1_78 rfl dX1_look_87 h (fun v11 h => ?_)
      refine S_bipush (z := 10) dX1_look_90 rfl ?_
      refine P_invVp 0 [(0, 10)] [] CVX7_setting MLX1_303 dX1_look_92 rfl rfl rfl rfl rfl (by omega) h (fun r h => F_X7_setting (by omega) h) (fun v12 h => ?_)
      obtain rfl := r0 _ (some_P (P := fun r => P r) h hz)
      exact P_ret dX1_look_95 rfl (Or.inl rfl)
    cases hX
  · refine S_iconst dX1_look_96 rfl ?_
    obtain rfl := r0 _ (some_P (P := fun r => P r) h hz)
    exact P_ret dX1_look_97 rfl (Or.inl rfl)
theorem F_X1_look {g : GG} {d : Nat} (hD : 1 ≤ d) {x0 x1 : Int} {M : MM} {r : Int} (h : f_X1_look x0 x1 M = some r) : Sem g d YX1_look 0 (ini YX1_look [(1, x0), (0, x1)]) [] M ((0, r), M) := by
  change Sem g d YX1_look 0 [(1, x0), (0, x1)] [] M ((0, r), M)
  exact s_X1_look_0 hD (P := fun x => x = r) (fun q e => by rw [e]) h rfl
/-! PeerSearch.lookup(I)I -/
theorem dX1_lookup_0 : decode cX1_lookup 0 = .ok (.aload_n 0, 1) := by decide +kernel
theorem dX1_lookup_1 : decode cX1_lookup 1 = .ok (.invokevirtual 123, 3) := by decide +kernel
theorem dX1_lookup_4 : decode cX1_lookup 4 = .ok (.istore_n 2, 1) := by decide +kernel
theorem dX1_lookup_5 : decode cX1_lookup 5 = .ok (.aload_n 0, 1) := by decide +kernel
theorem dX1_lookup_6 : decode cX1_lookup 6 = .ok (.invokevirtual 167, 3) := by decide +kernel
theorem dX1_lookup_9 : decode cX1_lookup 9 = .ok (.astore_n 3, 1) := by decide +kernel
theorem dX1_lookup_10 : decode cX1_lookup 10 = .ok (.aload_n 0, 1) := by decide +kernel
theorem dX1_lookup_11 : decode cX1_lookup 11 = .ok (.iload_n 1, 1) := by decide +kernel
theorem dX1_lookup_12 : decode cX1_lookup 12 = .ok (.invokevirtual 149, 3) := by decide +kernel
theorem dX1_lookup_15 : decode cX1_lookup 15 = .ok (.ifCond .eq 7, 3) := by decide +kernel
theorem dX1_lookup_18 : decode cX1_lookup 18 = .ok (.aload_n 3, 1) := by decide +kernel
theorem dX1_lookup_19 : decode cX1_lookup 19 = .ok (.ifnonnull 5, 3) := by decide +kernel
theorem dX1_lookup_22 : decode cX1_lookup 22 = .ok (.iconst (-1), 1) := by decide +kernel
theorem dX1_lookup_23 : decode cX1_lookup 23 = .ok (.ireturn, 1) := by decide +kernel
theorem dX1_lookup_24 : decode cX1_lookup 24 = .ok (.aload_n 0, 1) := by decide +kernel
theorem dX1_lookup_25 : decode cX1_lookup 25 = .ok (.getfield 70, 3) := by decide +kernel
theorem dX1_lookup_28 : decode cX1_lookup 28 = .ok (.getfield 95, 3) := by decide +kernel
theorem dX1_lookup_31 : decode cX1_lookup 31 = .ok (.aload_n 0, 1) := by decide +kernel
theorem dX1_lookup_32 : decode cX1_lookup 32 = .ok (.getfield 13, 3) := by decide +kernel
theorem dX1_lookup_35 : decode cX1_lookup 35 = .ok (.iload_n 2, 1) := by decide +kernel
theorem dX1_lookup_36 : decode cX1_lookup 36 = .ok (.aload_n 3, 1) := by decide +kernel
theorem dX1_lookup_37 : decode cX1_lookup 37 = .ok (.getfield 246, 3) := by decide +kernel
theorem dX1_lookup_40 : decode cX1_lookup 40 = .ok (.invokevirtual 99, 3) := by decide +kernel
theorem dX1_lookup_43 : decode cX1_lookup 43 = .ok (.aload_n 0, 1) := by decide +kernel
theorem dX1_lookup_44 : decode cX1_lookup 44 = .ok (.aload_n 3, 1) := by decide +kernel
theorem dX1_lookup_45 : decode cX1_lookup 45 = .ok (.iload_n 1, 1) := by decide +kernel
theorem dX1_lookup_46 : decode cX1_lookup 46 = .ok (.iconst 1, 1) := by decide +kernel
theorem dX1_lookup_47 : decode cX1_lookup 47 = .ok (.aload_n 3, 1) := by decide +kernel
theorem dX1_lookup_48 : decode cX1_lookup 48 = .ok (.getfield 249, 3) := by decide +kernel
theorem dX1_lookup_51 : decode cX1_lookup 51 = .ok (.invokevirtual 185, 3) := by decide +kernel
theorem dX1_lookup_54 : decode cX1_lookup 54 = .ok (.ireturn, 1) := by decide +kernel
def j_X1_lookup_22 (M : MM) : Option (Int × MM) :=
  some ((-1), M)
def f_X1_lookup (x0 x1 : Int) (M : MM) : Option (Int × MM) :=
  ck 1 x0 M <| (f_X1_take x0 M).bind fun r1 =>
  ck 1 x0 r1.2 <| (f_X1_free x0 r1.2).bind fun v1 =>
  ck 1 x0 r1.2 <| (f_X1_isLive x0 x1 r1.2).bind fun v2 =>
  if w32 v2 = 0 then
    j_X1_lookup_22 r1.2
  else
    if v1 = -1 then
      j_X1_lookup_22 r1.2
    else
      (gfr 1 0 x0 r1.2).bind fun v3 =>
      (gfr 6 3 v3 r1.2).bind fun v4 =>
      (gfr 1 3 x0 r1.2).bind fun v5 =>
      (gfr 11 7 v1 r1.2).bind fun v6 =>
      ck 8 v4 r1.2 <| (f_X8_of v4 v5 r1.1 v6 r1.2).bind fun M1 =>
      (gfr 11 9 v1 M1).bind fun v7 =>
      ck 1 x0 M1 <| (f_X1_begin x0 v1 x1 1 v7 M1).bind fun r2 =>
      some (r2.1, r2.2)
theorem s_X1_lookup_22 {g : GG} {d : Nat} (hD : 215 ≤ d) {M : MM} {o : AV × MM} {P : (Int × MM) → Prop} (r0 : ∀ r : Int × MM, P r → o = ((0, r.1), r.2)) {z : Int × MM} (h : j_X1_lookup_22 M = some z) (hz : P z) : Sem g d YX1_lookup 22 [(9, 0), (9, 0), (9, 0), (9, 0)] [] M o := by
  delta j_X1_lookup_22 at h
  refine S_iconst dX1_lookup_22 rfl ?_
  obtain rfl := r0 _ (some_P (P := fun r => P r) h hz)
  exact P_ret dX1_lookup_23 rfl (Or.inl rfl)
theorem s_X1_lookup_0 {g : GG} {d : Nat} (hD : 215 ≤ d) {x0 x1 : Int} {M : MM} {o : AV × MM} {P : (Int × MM) → Prop} (r0 : ∀ r : Int × MM, P r → o = ((0, r.1), r.2)) {z : Int × MM} (h : f_X1_lookup x0 x1 M = some z) (hz : P z) : Sem g d YX1_lookup 0 [(1, x0), (0, x1), (9, 0), (9, 0)] [] M o := by
  delta f_X1_lookup at h
  refine S_aload_n (i := 0) dX1_lookup_0 rfl rfl ?_
  refine P_invVe 0 [] [] CVX1_take MLX1_123 dX1_lookup_1 rfl rfl rfl rfl rfl (by omega) h (fun r h => F_X1_take (by omega) h) (fun r1 h => ?_)
  refine S_istore_n (i := 2) dX1_lookup_4 rfl (Nat.le_of_ble_eq_true rfl) rfl rfl ?_
  change Sem g d YX1_lookup 5 [(1, x0), (0, x1), (0, r1.1), (9, 0)] [] r1.2 o
  refine S_aload_n (i := 0) dX1_lookup_5 rfl rfl ?_
  refine P_invVp 1 [] [] CVX1_free MLX1_167 dX1_lookup_6 rfl rfl rfl rfl rfl (by omega) h (fun r h => F_X1_free (by omega) h) (fun v1 h => ?_)
  refine S_astore_n (i := 3) dX1_lookup_9 rfl (Nat.le_of_ble_eq_true rfl) rfl rfl ?_
  change Sem g d YX1_lookup 10 [(1, x0), (0, x1), (0, r1.1), (1, v1)] [] r1.2 o
  refine S_aload_n (i := 0) dX1_lookup_10 rfl rfl ?_
  refine S_iload_n (i := 1) dX1_lookup_11 rfl rfl ?_
  refine P_invVp 0 [(0, x1)] [] CVX1_isLive MLX1_149 dX1_lookup_12 rfl rfl rfl rfl rfl (by omega) h (fun r h => F_X1_isLive (by omega) h) (fun v2 h => ?_)
  refine P_if_eq (tgt := 22) dX1_lookup_15 rfl h (fun h => ?_) (fun h => ?_)
  · refine S_weak (ls' := [(9, 0), (9, 0), (9, 0), (9, 0)]) ⟨Or.inl rfl, ⟨Or.inl rfl, ⟨Or.inl rfl, ⟨Or.inl rfl, trivial⟩⟩⟩⟩ ?_
    exact s_X1_lookup_22 hD r0 h hz
  · refine S_aload_n (i := 3) dX1_lookup_18 rfl rfl ?_
    refine P_ifnonnull (tgt := 24) dX1_lookup_19 rfl h (fun h => ?_) (fun h => ?_)
    · refine S_aload_n (i := 0) dX1_lookup_24 rfl rfl ?_
      refine P_gfr FLX1_70 rfl dX1_lookup_25 h (fun v3 h => ?_)
      refine P_gfr FLX1_95 rfl dX1_lookup_28 h (fun v4 h => ?_)
      refine S_aload_n (i := 0) dX1_lookup_31 rfl rfl ?_
      refine P_gfr FLX1_13 rfl dX1_lookup_32 h (fun v5 h => ?_)
      refine S_iload_n (i := 2) dX1_lookup_35 rfl rfl ?_
      refine S_aload_n (i := 3) dX1_lookup_36 rfl rfl ?_
      refine P_gfr FLX1_246 rfl dX1_lookup_37 h (fun v6 h => ?_)
      refine P_invVm' [(1, v5), (0, r1.1), (1, v6)] [] CVX8_of MLX1_99 dX1_lookup_40 rfl rfl rfl rfl (by omega) h (fun r h => F_X8_of (by omega) h) (fun M1 h => ?_)
      refine S_aload_n (i := 0) dX1_lookup_43 rfl rfl ?_
      refine S_aload_n (i := 3) dX1_lookup_44 rfl rfl ?_
      refine S_iload_n (i := 1) dX1_lookup_45 rfl rfl ?_
      refine S_iconst dX1_lookup_46 rfl ?_
      refine S_aload_n (i := 3) dX1_lookup_47 rfl rfl ?_
      refine P_gfr FLX1_249 rfl dX1_lookup_48 h (fun v7 h => ?_)
      refine P_invVe 0 [(1, v1), (0, x1), (0, 1), (1, v7)] [] CVX1_begin MLX1_185 dX1_lookup_51 rfl rfl rfl rfl rfl (by omega) h (fun r h => F_X1_begin (by omega) h) (fun r2 h => ?_)
      obtain rfl := r0 _ (some_P (P := fun r => P r) h hz)
      exact P_ret dX1_lookup_54 rfl (Or.inl rfl)
    · refine S_weak (ls' := [(9, 0), (9, 0), (9, 0), (9, 0)]) ⟨Or.inl rfl, ⟨Or.inl rfl, ⟨Or.inl rfl, ⟨Or.inl rfl, trivial⟩⟩⟩⟩ ?_
      exact s_X1_lookup_22 hD r0 h hz
theorem F_X1_lookup {g : GG} {d : Nat} (hD : 215 ≤ d) {x0 x1 : Int} {M : MM} {r : Int × MM} (h : f_X1_lookup x0 x1 M = some r) : Sem g d YX1_lookup 0 (ini YX1_lookup [(1, x0), (0, x1)]) [] M ((0, r.1), r.2) := by
  change Sem g d YX1_lookup 0 [(1, x0), (0, x1), (9, 0), (9, 0)] [] M ((0, r.1), r.2)
  exact s_X1_lookup_0 hD (P := fun x => x = r) (fun q e => by rw [e]) h rfl
/-! PeerSearch.nearest(I)I -/
theorem dX1_nearest_0 : decode cX1_nearest 0 = .ok (.aload_n 0, 1) := by decide +kernel
theorem dX1_nearest_1 : decode cX1_nearest 1 = .ok (.getfield 70, 3) := by decide +kernel
theorem dX1_nearest_4 : decode cX1_nearest 4 = .ok (.getfield 95, 3) := by decide +kernel
theorem dX1_nearest_7 : decode cX1_nearest 7 = .ok (.aload_n 0, 1) := by decide +kernel
theorem dX1_nearest_8 : decode cX1_nearest 8 = .ok (.getfield 13, 3) := by decide +kernel
theorem dX1_nearest_11 : decode cX1_nearest 11 = .ok (.aload_n 0, 1) := by decide +kernel
theorem dX1_nearest_12 : decode cX1_nearest 12 = .ok (.getfield 91, 3) := by decide +kernel
theorem dX1_nearest_15 : decode cX1_nearest 15 = .ok (.aload_n 0, 1) := by decide +kernel
theorem dX1_nearest_16 : decode cX1_nearest 16 = .ok (.getfield 41, 3) := by decide +kernel
theorem dX1_nearest_19 : decode cX1_nearest 19 = .ok (.invokevirtual 99, 3) := by decide +kernel
theorem dX1_nearest_22 : decode cX1_nearest 22 = .ok (.iconst 0, 1) := by decide +kernel
theorem dX1_nearest_23 : decode cX1_nearest 23 = .ok (.istore_n 2, 1) := by decide +kernel
theorem dX1_nearest_24 : decode cX1_nearest 24 = .ok (.iload_n 2, 1) := by decide +kernel
theorem dX1_nearest_25 : decode cX1_nearest 25 = .ok (.aload_n 0, 1) := by decide +kernel
theorem dX1_nearest_26 : decode cX1_nearest 26 = .ok (.getfield 70, 3) := by decide +kernel
theorem dX1_nearest_29 : decode cX1_nearest 29 = .ok (.getfield 127, 3) := by decide +kernel
theorem dX1_nearest_32 : decode cX1_nearest 32 = .ok (.if_icmp .ge 99, 3) := by decide +kernel
theorem dX1_nearest_35 : decode cX1_nearest 35 = .ok (.iconst 0, 1) := by decide +kernel
theorem dX1_nearest_36 : decode cX1_nearest 36 = .ok (.istore_n 3, 1) := by decide +kernel
theorem dX1_nearest_37 : decode cX1_nearest 37 = .ok (.iconst 0, 1) := by decide +kernel
theorem dX1_nearest_38 : decode cX1_nearest 38 = .ok (.istore 4, 2) := by decide +kernel
theorem dX1_nearest_40 : decode cX1_nearest 40 = .ok (.iload 4, 2) := by decide +kernel
theorem dX1_nearest_42 : decode cX1_nearest 42 = .ok (.aload_n 0, 1) := by decide +kernel
theorem dX1_nearest_43 : decode cX1_nearest 43 = .ok (.getfield 70, 3) := by decide +kernel
theorem dX1_nearest_46 : decode cX1_nearest 46 = .ok (.getfield 127, 3) := by decide +kernel
theorem dX1_nearest_49 : decode cX1_nearest 49 = .ok (.if_icmp .ge 61, 3) := by decide +kernel
theorem dX1_nearest_52 : decode cX1_nearest 52 = .ok (.iload_n 3, 1) := by decide +kernel
theorem dX1_nearest_53 : decode cX1_nearest 53 = .ok (.aload_n 0, 1) := by decide +kernel
theorem dX1_nearest_54 : decode cX1_nearest 54 = .ok (.iload 4, 2) := by decide +kernel
theorem dX1_nearest_56 : decode cX1_nearest 56 = .ok (.invokevirtual 149, 3) := by decide +kernel
theorem dX1_nearest_59 : decode cX1_nearest 59 = .ok (.ifCond .eq 42, 3) := by decide +kernel
theorem dX1_nearest_62 : decode cX1_nearest 62 = .ok (.aload_n 0, 1) := by decide +kernel
theorem dX1_nearest_63 : decode cX1_nearest 63 = .ok (.getfield 70, 3) := by decide +kernel
theorem dX1_nearest_66 : decode cX1_nearest 66 = .ok (.getfield 114, 3) := by decide +kernel
theorem dX1_nearest_69 : decode cX1_nearest 69 = .ok (.iload 4, 2) := by decide +kernel
theorem dX1_nearest_71 : decode cX1_nearest 71 = .ok (.aaload, 1) := by decide +kernel
theorem dX1_nearest_72 : decode cX1_nearest 72 = .ok (.getfield 130, 3) := by decide +kernel
theorem dX1_nearest_75 : decode cX1_nearest 75 = .ok (.aload_n 0, 1) := by decide +kernel
theorem dX1_nearest_76 : decode cX1_nearest 76 = .ok (.getfield 70, 3) := by decide +kernel
theorem dX1_nearest_79 : decode cX1_nearest 79 = .ok (.getfield 114, 3) := by decide +kernel
theorem dX1_nearest_82 : decode cX1_nearest 82 = .ok (.iload_n 2, 1) := by decide +kernel
theorem dX1_nearest_83 : decode cX1_nearest 83 = .ok (.aaload, 1) := by decide +kernel
theorem dX1_nearest_84 : decode cX1_nearest 84 = .ok (.getfield 130, 3) := by decide +kernel
theorem dX1_nearest_87 : decode cX1_nearest 87 = .ok (.aload_n 0, 1) := by decide +kernel
theorem dX1_nearest_88 : decode cX1_nearest 88 = .ok (.getfield 41, 3) := by decide +kernel
theorem dX1_nearest_91 : decode cX1_nearest 91 = .ok (.invokevirtual 444, 3) := by decide +kernel
theorem dX1_nearest_94 : decode cX1_nearest 94 = .ok (.ifCond .eq 7, 3) := by decide +kernel
theorem dX1_nearest_97 : decode cX1_nearest 97 = .ok (.iconst 1, 1) := by decide +kernel
theorem dX1_nearest_98 : decode cX1_nearest 98 = .ok (.goto 4, 3) := by decide +kernel
theorem dX1_nearest_101 : decode cX1_nearest 101 = .ok (.iconst 0, 1) := by decide +kernel
theorem dX1_nearest_102 : decode cX1_nearest 102 = .ok (.iadd, 1) := by decide +kernel
theorem dX1_nearest_103 : decode cX1_nearest 103 = .ok (.istore_n 3, 1) := by decide +kernel
theorem dX1_nearest_104 : decode cX1_nearest 104 = .ok (.iinc 4 1, 3) := by decide +kernel
theorem dX1_nearest_107 : decode cX1_nearest 107 = .ok (.goto (-67), 3) := by decide +kernel
theorem dX1_nearest_110 : decode cX1_nearest 110 = .ok (.aload_n 0, 1) := by decide +kernel
theorem dX1_nearest_111 : decode cX1_nearest 111 = .ok (.iload_n 2, 1) := by decide +kernel
theorem dX1_nearest_112 : decode cX1_nearest 112 = .ok (.invokevirtual 149, 3) := by decide +kernel
theorem dX1_nearest_115 : decode cX1_nearest 115 = .ok (.ifCond .eq 10, 3) := by decide +kernel
theorem dX1_nearest_118 : decode cX1_nearest 118 = .ok (.iload_n 3, 1) := by decide +kernel
theorem dX1_nearest_119 : decode cX1_nearest 119 = .ok (.iload_n 1, 1) := by decide +kernel
theorem dX1_nearest_120 : decode cX1_nearest 120 = .ok (.if_icmp .ne 5, 3) := by decide +kernel
theorem dX1_nearest_123 : decode cX1_nearest 123 = .ok (.iload_n 2, 1) := by decide +kernel
theorem dX1_nearest_124 : decode cX1_nearest 124 = .ok (.ireturn, 1) := by decide +kernel
theorem dX1_nearest_125 : decode cX1_nearest 125 = .ok (.iinc 2 1, 3) := by decide +kernel
theorem dX1_nearest_128 : decode cX1_nearest 128 = .ok (.goto (-104), 3) := by decide +kernel
theorem dX1_nearest_131 : decode cX1_nearest 131 = .ok (.iconst (-1), 1) := by decide +kernel
theorem dX1_nearest_132 : decode cX1_nearest 132 = .ok (.ireturn, 1) := by decide +kernel
def j_X1_nearest_125 (x0 x1 x2 : Int) (M : MM) : Option ((Int) ⊕ (Int × MM)) :=
  cnt (x2 + 1)
def j_X1_nearest_110 (x0 x1 x2 x3 : Int) (M : MM) : Option ((Int) ⊕ (Int × MM)) :=
  ck 1 x0 M <| (f_X1_isLive x0 x2 M).bind fun v1 =>
  if w32 v1 = 0 then
    j_X1_nearest_125 x0 x1 x2 M
  else
    if w32 x3 = w32 x1 then
      xit (some (x2, M))
    else
      j_X1_nearest_125 x0 x1 x2 M
def j_X1_nearest_102 (x0 x1 x2 x4 y0 y1 : Int) (M : MM) : Option ((Int × Int) ⊕ ((Int) ⊕ (Int × MM))) :=
  cnt (y0 + y1, x4 + 1)
def j_X1_nearest_101 (x0 x1 x2 x4 y0 : Int) (M : MM) : Option ((Int × Int) ⊕ ((Int) ⊕ (Int × MM))) :=
  j_X1_nearest_102 x0 x1 x2 x4 y0 0 M
def b_X1_nearest_40 (x0 x1 x2 x3 x4 : Int) (M : MM) : Option ((Int × Int) ⊕ ((Int) ⊕ (Int × MM))) :=
  (gfr 1 0 x0 M).bind fun v1 =>
  (gfi 6 6 v1 M).bind fun v2 =>
  if w32 x4 < w32 v2 then
    ck 1 x0 M <| (f_X1_isLive x0 x4 M).bind fun v3 =>
    if w32 v3 = 0 then
      j_X1_nearest_101 x0 x1 x2 x4 x3 M
    else
      (gfr 1 0 x0 M).bind fun v4 =>
      (gfr 6 5 v4 M).bind fun v5 =>
      (lar 7 v5 x4 M).bind fun v6 =>
      (gfr 17 2 v6 M).bind fun v7 =>
      (gfr 1 0 x0 M).bind fun v8 =>
      (gfr 6 5 v8 M).bind fun v9 =>
      (lar 7 v9 x2 M).bind fun v10 =>
      (gfr 17 2 v10 M).bind fun v11 =>
      (gfr 1 10 x0 M).bind fun v12 =>
      ck 3 v7 M <| (f_X3_isNearer v7 v11 v12 M).bind fun v13 =>
      if w32 v13 = 0 then
        j_X1_nearest_101 x0 x1 x2 x4 x3 M
      else
        j_X1_nearest_102 x0 x1 x2 x4 x3 1 M
  else
    xit (j_X1_nearest_110 x0 x1 x2 x3 M)
def l_X1_nearest_40 (x0 x1 x2 x3 x4 : Int) (M : MM) : Option ((Int) ⊕ (Int × MM)) := lpN (fun s : Int × Int => b_X1_nearest_40 x0 x1 x2 s.1 s.2 M) FU (x3, x4)
def b_X1_nearest_24 (x0 x1 x2 : Int) (M : MM) : Option ((Int) ⊕ (Int × MM)) :=
  (gfr 1 0 x0 M).bind fun v1 =>
  (gfi 6 6 v1 M).bind fun v2 =>
  if w32 x2 < w32 v2 then
    l_X1_nearest_40 x0 x1 x2 0 0 M
  else
    xit (some ((-1), M))
def l_X1_nearest_24 (x0 x1 x2 : Int) (M : MM) : Option (Int × MM) := lpN (fun s : Int => b_X1_nearest_24 x0 x1 s M) FU x2
def f_X1_nearest (x0 x1 : Int) (M : MM) : Option (Int × MM) :=
  (gfr 1 0 x0 M).bind fun v1 =>
  (gfr 6 3 v1 M).bind fun v2 =>
  (gfr 1 3 x0 M).bind fun v3 =>
  (gfi 1 5 x0 M).bind fun v4 =>
  (gfr 1 10 x0 M).bind fun v5 =>
  ck 8 v2 M <| (f_X8_of v2 v3 v4 v5 M).bind fun M1 =>
  l_X1_nearest_24 x0 x1 0 M1
theorem s_X1_nearest_125 {g : GG} {d : Nat} (hD : 3 ≤ d) {x0 x1 x2 : Int} {M : MM} {o : AV × MM} {P : ((Int) ⊕ (Int × MM)) → Prop} (c0 : ∀ s : Int, P (.inl s) → Sem g d YX1_nearest 24 [(1, x0), (0, x1), (0, s), (9, 0), (9, 0)] [] M o) (r0 : ∀ r : Int × MM, P (.inr r) → o = ((0, r.1), r.2)) {z : (Int) ⊕ (Int × MM)} (h : j_X1_nearest_125 x0 x1 x2 M = some z) (hz : P z) : Sem g d YX1_nearest 125 [(1, x0), (0, x1), (0, x2), (9, 0), (9, 0)] [] M o := by
  delta j_X1_nearest_125 at h
  refine S_iinc dX1_nearest_125 rfl rfl rfl ?_
  change Sem g d YX1_nearest 128 [(1, x0), (0, x1), (0, x2 + 1), (9, 0), (9, 0)] [] M o
  refine S_goto (tgt := 24) dX1_nearest_128 rfl ?_
  exact c0 (x2 + 1) (some_P (P := fun r => P r) h hz)
theorem s_X1_nearest_110 {g : GG} {d : Nat} (hD : 3 ≤ d) {x0 x1 x2 x3 : Int} {M : MM} {o : AV × MM} {P : ((Int) ⊕ (Int × MM)) → Prop} (c0 : ∀ s : Int, P (.inl s) → Sem g d YX1_nearest 24 [(1, x0), (0, x1), (0, s), (9, 0), (9, 0)] [] M o) (r0 : ∀ r : Int × MM, P (.inr r) → o = ((0, r.1), r.2)) {z : (Int) ⊕ (Int × MM)} (h : j_X1_nearest_110 x0 x1 x2 x3 M = some z) (hz : P z) : Sem g d YX1_nearest 110 [(1, x0), (0, x1), (0, x2), (0, x3), (9, 0)] [] M o := by
  delta j_X1_nearest_110 at h
  refine S_aload_n (i := 0) dX1_nearest_110 rfl rfl ?_
  refine S_iload_n (i := 2) dX1_nearest_111 rfl rfl ?_
  refine P_invVp 0 [(0, x2)] [] CVX1_isLive MLX1_149 dX1_nearest_112 rfl rfl rfl rfl rfl (by omega) h (fun r h => F_X1_isLive (by omega) h) (fun v1 h => ?_)
  refine P_if_eq (tgt := 125) dX1_nearest_115 rfl h (fun h => ?_) (fun h => ?_)
  · refine S_weak (ls' := [(1, x0), (0, x1), (0, x2), (9, 0), (9, 0)]) ⟨Or.inr rfl, ⟨Or.inr rfl, ⟨Or.inr rfl, ⟨Or.inl rfl, ⟨Or.inl rfl, trivial⟩⟩⟩⟩⟩ ?_
    exact s_X1_nearest_125 hD c0 r0 h hz
  · refine S_iload_n (i := 3) dX1_nearest_118 rfl rfl ?_
    refine S_iload_n (i := 1) dX1_nearest_119 rfl rfl ?_
    refine P_icmp_ne (tgt := 125) dX1_nearest_120 rfl h (fun h => ?_) (fun h => ?_)
    · refine S_weak (ls' := [(1, x0), (0, x1), (0, x2), (9, 0), (9, 0)]) ⟨Or.inr rfl, ⟨Or.inr rfl, ⟨Or.inr rfl, ⟨Or.inl rfl, ⟨Or.inl rfl, trivial⟩⟩⟩⟩⟩ ?_
      exact s_X1_nearest_125 hD c0 r0 h hz
    · obtain ⟨z0, h, hz⟩ := xit_some' (P := fun r => P r) h hz
      refine S_iload_n (i := 2) dX1_nearest_123 rfl rfl ?_
      obtain rfl := r0 _ (some_P (P := fun r => P (.inr r)) h hz)
      exact P_ret dX1_nearest_124 rfl (Or.inl rfl)
theorem s_X1_nearest_102 {g : GG} {d : Nat} (hD : 3 ≤ d) {x0 x1 x2 x4 y0 y1 : Int} {M : MM} {o : AV × MM} {P : ((Int × Int) ⊕ ((Int) ⊕ (Int × MM))) → Prop} (c1 : ∀ s : Int × Int, P (.inl s) → Sem g d YX1_nearest 40 [(1, x0), (0, x1), (0, x2), (0, s.1), (0, s.2)] [] M o) (c0 : ∀ s : Int, P (.inr (.inl s)) → Sem g d YX1_nearest 24 [(1, x0), (0, x1), (0, s), (9, 0), (9, 0)] [] M o) (r0 : ∀ r : Int × MM, P (.inr (.inr r)) → o = ((0, r.1), r.2)) {z : (Int × Int) ⊕ ((Int) ⊕ (Int × MM))} (h : j_X1_nearest_102 x0 x1 x2 x4 y0 y1 M = some z) (hz : P z) : Sem g d YX1_nearest 102 [(1, x0), (0, x1), (0, x2), (9, 0), (0, x4)] [(0, y1), (0, y0)] M o := by
  delta j_X1_nearest_102 at h
  refine S_iadd dX1_nearest_102 ?_
  refine S_istore_n (i := 3) dX1_nearest_103 rfl (Nat.le_of_ble_eq_true rfl) rfl rfl ?_
  change Sem g d YX1_nearest 104 [(1, x0), (0, x1), (0, x2), (0, y0 + y1), (0, x4)] [] M o
  refine S_iinc dX1_nearest_104 rfl rfl rfl ?_
  change Sem g d YX1_nearest 107 [(1, x0), (0, x1), (0, x2), (0, y0 + y1), (0, x4 + 1)] [] M o
  refine S_goto (tgt := 40) dX1_nearest_107 rfl ?_
  exact c1 (y0 + y1, x4 + 1) (some_P (P := fun r => P r) h hz)
theorem s_X1_nearest_101 {g : GG} {d : Nat} (hD : 3 ≤ d) {x0 x1 x2 x4 y0 : Int} {M : MM} {o : AV × MM} {P : ((Int × Int) ⊕ ((Int) ⊕ (Int × MM))) → Prop} (c1 : ∀ s : Int × Int, P (.inl s) → Sem g d YX1_nearest 40 [(1, x0), (0, x1), (0, x2), (0, s.1), (0, s.2)] [] M o) (c0 : ∀ s : Int, P (.inr (.inl s)) → Sem g d YX1_nearest 24 [(1, x0), (0, x1), (0, s), (9, 0), (9, 0)] [] M o) (r0 : ∀ r : Int × MM, P (.inr (.inr r)) → o = ((0, r.1), r.2)) {z : (Int × Int) ⊕ ((Int) ⊕ (Int × MM))} (h : j_X1_nearest_101 x0 x1 x2 x4 y0 M = some z) (hz : P z) : Sem g d YX1_nearest 101 [(1, x0), (0, x1), (0, x2), (9, 0), (0, x4)] [(0, y0)] M o := by
  delta j_X1_nearest_101 at h
  refine S_iconst dX1_nearest_101 rfl ?_
  exact s_X1_nearest_102 hD c1 c0 r0 h hz
theorem s_X1_nearest_40 {g : GG} {d : Nat} (hD : 3 ≤ d) {x0 x1 x2 x3 x4 : Int} {M : MM} {o : AV × MM} {P : ((Int × Int) ⊕ ((Int) ⊕ (Int × MM))) → Prop} (c1 : ∀ s : Int × Int, P (.inl s) → Sem g d YX1_nearest 40 [(1, x0), (0, x1), (0, x2), (0, s.1), (0, s.2)] [] M o) (c0 : ∀ s : Int, P (.inr (.inl s)) → Sem g d YX1_nearest 24 [(1, x0), (0, x1), (0, s), (9, 0), (9, 0)] [] M o) (r0 : ∀ r : Int × MM, P (.inr (.inr r)) → o = ((0, r.1), r.2)) {z : (Int × Int) ⊕ ((Int) ⊕ (Int × MM))} (h : b_X1_nearest_40 x0 x1 x2 x3 x4 M = some z) (hz : P z) : Sem g d YX1_nearest 40 [(1, x0), (0, x1), (0, x2), (0, x3), (0, x4)] [] M o := by
  delta b_X1_nearest_40 at h
  refine S_iload dX1_nearest_40 rfl ?_
  refine S_aload_n (i := 0) dX1_nearest_42 rfl rfl ?_
  refine P_gfr FLX1_70 rfl dX1_nearest_43 h (fun v1 h => ?_)
  refine P_gfi FLX1_127 rfl dX1_nearest_46 h (fun v2 h => ?_)
  refine P_icmp_ge (tgt := 110) dX1_nearest_49 rfl h (fun h => ?_) (fun h => ?_)
  · refine S_weak (ls' := [(1, x0), (0, x1), (0, x2), (0, x3), (9, 0)]) ⟨Or.inr rfl, ⟨Or.inr rfl, ⟨Or.inr rfl, ⟨Or.inr rfl, ⟨Or.inl rfl, trivial⟩⟩⟩⟩⟩ ?_
    obtain ⟨z0, h, hz⟩ := xit_some' (P := fun r => P r) h hz
    exact s_X1_nearest_110 hD (P := fun r => P (.inr r)) c0 r0 h hz
  · refine S_iload_n (i := 3) dX1_nearest_52 rfl rfl ?_
    refine S_aload_n (i := 0) dX1_nearest_53 rfl rfl ?_
    refine S_iload dX1_nearest_54 rfl ?_
    refine P_invVp 0 [(0, x4)] [(0, x3)] CVX1_isLive MLX1_149 dX1_nearest_56 rfl rfl rfl rfl rfl (by omega) h (fun r h => F_X1_isLive (by omega) h) (fun v3 h => ?_)
    refine P_if_eq (tgt := 101) dX1_nearest_59 rfl h (fun h => ?_) (fun h => ?_)
    · refine S_weak (ls' := [(1, x0), (0, x1), (0, x2), (9, 0), (0, x4)]) ⟨Or.inr rfl, ⟨Or.inr rfl, ⟨Or.inr rfl, ⟨Or.inl rfl, ⟨Or.inr rfl, trivial⟩⟩⟩⟩⟩ ?_
      exact s_X1_nearest_101 hD c1 c0 r0 h hz
    · refine S_aload_n (i := 0) dX1_nearest_62 rfl rfl ?_
      refine P_gfr FLX1_70 rfl dX1_nearest_63 h (fun v4 h => ?_)
      refine P_gfr FLX1_114 rfl dX1_nearest_66 h (fun v5 h => ?_)
      refine S_iload dX1_nearest_69 rfl ?_
      refine P_lar (t := 7) ⟨by decide, by decide⟩ dX1_nearest_71 h (fun v6 h => ?_)
      refine P_gfr FLX1_130 rfl dX1_nearest_72 h (fun v7 h => ?_)
      refine S_aload_n (i := 0) dX1_nearest_75 rfl rfl ?_
      refine P_gfr FLX1_70 rfl dX1_nearest_76 h (fun v8 h => ?_)
      refine P_gfr FLX1_114 rfl dX1_nearest_79 h (fun v9 h => ?_)
      refine S_iload_n (i := 2) dX1_nearest_82 rfl rfl ?_
      refine P_lar (t := 7) ⟨by decide, by decide⟩ dX1_nearest_83 h (fun v10 h => ?_)
      refine P_gfr FLX1_130 rfl dX1_nearest_84 h (fun v11 h => ?_)
      refine S_aload_n (i := 0) dX1_nearest_87 rfl rfl ?_
      refine P_gfr FLX1_41 rfl dX1_nearest_88 h (fun v12 h => ?_)
      refine P_invVp 0 [(1, v11), (1, v12)] [(0, x3)] CVX3_isNearer MLX1_444 dX1_nearest_91 rfl rfl rfl rfl rfl (by omega) h (fun r h => F_X3_isNearer (by omega) h) (fun v13 h => ?_)
      refine P_if_eq (tgt := 101) dX1_nearest_94 rfl h (fun h => ?_) (fun h => ?_)
      · refine S_weak (ls' := [(1, x0), (0, x1), (0, x2), (9, 0), (0, x4)]) ⟨Or.inr rfl, ⟨Or.inr rfl, ⟨Or.inr rfl, ⟨Or.inl rfl, ⟨Or.inr rfl, trivial⟩⟩⟩⟩⟩ ?_
        exact s_X1_nearest_101 hD c1 c0 r0 h hz
      · refine S_iconst dX1_nearest_97 rfl ?_
        refine S_goto (tgt := 102) dX1_nearest_98 rfl ?_
        refine S_weak (ls' := [(1, x0), (0, x1), (0, x2), (9, 0), (0, x4)]) ⟨Or.inr rfl, ⟨Or.inr rfl, ⟨Or.inr rfl, ⟨Or.inl rfl, ⟨Or.inr rfl, trivial⟩⟩⟩⟩⟩ ?_
        exact s_X1_nearest_102 hD c1 c0 r0 h hz
theorem sl_X1_nearest_40 {g : GG} {d : Nat} (hD : 3 ≤ d) {x0 x1 x2 x3 x4 : Int} {M : MM} {o : AV × MM} {P : ((Int) ⊕ (Int × MM)) → Prop} (c0 : ∀ s : Int, P (.inl s) → Sem g d YX1_nearest 24 [(1, x0), (0, x1), (0, s), (9, 0), (9, 0)] [] M o) (r0 : ∀ r : Int × MM, P (.inr r) → o = ((0, r.1), r.2)) {z : (Int) ⊕ (Int × MM)} (h : l_X1_nearest_40 x0 x1 x2 x3 x4 M = some z) (hz : P z) : Sem g d YX1_nearest 40 [(1, x0), (0, x1), (0, x2), (0, x3), (0, x4)] [] M o := by
  refine lp_sound (S := fun s : Int × Int => Sem g d YX1_nearest 40 [(1, x0), (0, x1), (0, x2), (0, s.1), (0, s.2)] [] M o) (P := P) ?_ FU (x3, x4) z h hz
  intro s x hx hP
  exact s_X1_nearest_40 hD (P := Sum.elim (fun s : Int × Int => Sem g d YX1_nearest 40 [(1, x0), (0, x1), (0, x2), (0, s.1), (0, s.2)] [] M o) P) (fun s h => h) (fun s h => c0 s h) (fun s h => r0 s h) hx hP
theorem s_X1_nearest_24 {g : GG} {d : Nat} (hD : 3 ≤ d) {x0 x1 x2 : Int} {M : MM} {o : AV × MM} {P : ((Int) ⊕ (Int × MM)) → Prop} (c0 : ∀ s : Int, P (.inl s) → Sem g d YX1_nearest 24 [(1, x0), (0, x1), (0, s), (9, 0), (9, 0)] [] M o) (r0 : ∀ r : Int × MM, P (.inr r) → o = ((0, r.1), r.2)) {z : (Int) ⊕ (Int × MM)} (h : b_X1_nearest_24 x0 x1 x2 M = some z) (hz : P z) : Sem g d YX1_nearest 24 [(1, x0), (0, x1), (0, x2), (9, 0), (9, 0)] [] M o := by
  delta b_X1_nearest_24 at h
  refine S_iload_n (i := 2) dX1_nearest_24 rfl rfl ?_
  refine S_aload_n (i := 0) dX1_nearest_25 rfl rfl ?_
  refine P_gfr FLX1_70 rfl dX1_nearest_26 h (fun v1 h => ?_)
  refine P_gfi FLX1_127 rfl dX1_nearest_29 h (fun v2 h => ?_)
  refine P_icmp_ge (tgt := 131) dX1_nearest_32 rfl h (fun h => ?_) (fun h => ?_)
  · obtain ⟨z0, h, hz⟩ := xit_some' (P := fun r => P r) h hz
    refine S_iconst dX1_nearest_131 rfl ?_
    obtain rfl := r0 _ (some_P (P := fun r => P (.inr r)) h hz)
    exact P_ret dX1_nearest_132 rfl (Or.inl rfl)
  · refine S_iconst dX1_nearest_35 rfl ?_
    refine S_istore_n (i := 3) dX1_nearest_36 rfl (Nat.le_of_ble_eq_true rfl) rfl rfl ?_
    change Sem g d YX1_nearest 37 [(1, x0), (0, x1), (0, x2), (0, 0), (9, 0)] [] M o
    refine S_iconst dX1_nearest_37 rfl ?_
    refine S_istore dX1_nearest_38 (Nat.le_of_ble_eq_true rfl) rfl rfl ?_
    change Sem g d YX1_nearest 40 [(1, x0), (0, x1), (0, x2), (0, 0), (0, 0)] [] M o
    exact sl_X1_nearest_40 hD c0 r0 h hz
theorem sl_X1_nearest_24 {g : GG} {d : Nat} (hD : 3 ≤ d) {x0 x1 x2 : Int} {M : MM} {o : AV × MM} {P : (Int × MM) → Prop} (r0 : ∀ r : Int × MM, P r → o = ((0, r.1), r.2)) {z : Int × MM} (h : l_X1_nearest_24 x0 x1 x2 M = some z) (hz : P z) : Sem g d YX1_nearest 24 [(1, x0), (0, x1), (0, x2), (9, 0), (9, 0)] [] M o := by
  refine lp_sound (S := fun s : Int => Sem g d YX1_nearest 24 [(1, x0), (0, x1), (0, s), (9, 0), (9, 0)] [] M o) (P := P) ?_ FU x2 z h hz
  intro s x hx hP
  exact s_X1_nearest_24 hD (P := Sum.elim (fun s : Int => Sem g d YX1_nearest 24 [(1, x0), (0, x1), (0, s), (9, 0), (9, 0)] [] M o) P) (fun s h => h) (fun s h => r0 s h) hx hP
theorem s_X1_nearest_0 {g : GG} {d : Nat} (hD : 3 ≤ d) {x0 x1 : Int} {M : MM} {o : AV × MM} {P : (Int × MM) → Prop} (r0 : ∀ r : Int × MM, P r → o = ((0, r.1), r.2)) {z : Int × MM} (h : f_X1_nearest x0 x1 M = some z) (hz : P z) : Sem g d YX1_nearest 0 [(1, x0), (0, x1), (9, 0), (9, 0), (9, 0)] [] M o := by
  delta f_X1_nearest at h
  refine S_aload_n (i := 0) dX1_nearest_0 rfl rfl ?_
  refine P_gfr FLX1_70 rfl dX1_nearest_1 h (fun v1 h => ?_)
  refine P_gfr FLX1_95 rfl dX1_nearest_4 h (fun v2 h => ?_)
  refine S_aload_n (i := 0) dX1_nearest_7 rfl rfl ?_
  refine P_gfr FLX1_13 rfl dX1_nearest_8 h (fun v3 h => ?_)
  refine S_aload_n (i := 0) dX1_nearest_11 rfl rfl ?_
  refine P_gfi FLX1_91 rfl dX1_nearest_12 h (fun v4 h => ?_)
  refine S_aload_n (i := 0) dX1_nearest_15 rfl rfl ?_
  refine P_gfr FLX1_41 rfl dX1_nearest_16 h (fun v5 h => ?_)
  refine P_invVm' [(1, v3), (0, v4), (1, v5)] [] CVX8_of MLX1_99 dX1_nearest_19 rfl rfl rfl rfl (by omega) h (fun r h => F_X8_of (by omega) h) (fun M1 h => ?_)
  refine S_iconst dX1_nearest_22 rfl ?_
  refine S_istore_n (i := 2) dX1_nearest_23 rfl (Nat.le_of_ble_eq_true rfl) rfl rfl ?_
  change Sem g d YX1_nearest 24 [(1, x0), (0, x1), (0, 0), (9, 0), (9, 0)] [] M1 o
  exact sl_X1_nearest_24 hD r0 h hz
theorem F_X1_nearest {g : GG} {d : Nat} (hD : 3 ≤ d) {x0 x1 : Int} {M : MM} {r : Int × MM} (h : f_X1_nearest x0 x1 M = some r) : Sem g d YX1_nearest 0 (ini YX1_nearest [(1, x0), (0, x1)]) [] M ((0, r.1), r.2) := by
  change Sem g d YX1_nearest 0 [(1, x0), (0, x1), (9, 0), (9, 0), (9, 0)] [] M ((0, r.1), r.2)
  exact s_X1_nearest_0 hD (P := fun x => x = r) (fun q e => by rw [e]) h rfl
/-! PeerSearch$Library.<init>()V -/
theorem dX19_init_0 : decode cX19_init 0 = .ok (.aload_n 0, 1) := by decide +kernel
theorem dX19_init_1 : decode cX19_init 1 = .ok (.invokespecial 3, 3) := by decide +kernel
theorem dX19_init_4 : decode cX19_init 4 = .ok (.aload_n 0, 1) := by decide +kernel
theorem dX19_init_5 : decode cX19_init 5 = .ok (.bipush 64, 2) := by decide +kernel
theorem dX19_init_7 : decode cX19_init 7 = .ok (.anewarray 9, 3) := by decide +kernel
theorem dX19_init_10 : decode cX19_init 10 = .ok (.putfield 11, 3) := by decide +kernel
theorem dX19_init_13 : decode cX19_init 13 = .ok (.return_, 1) := by decide +kernel
def f_X19_init (x0 : Int) (M : MM) : Option (MM) :=
  nn x0 <|
  (nar 554 64 M).bind fun r1 =>
  (pfr 19 0 x0 r1.1 r1.2).bind fun M1 =>
  some M1
theorem s_X19_init_0 {g : GG} {d : Nat} (hD : 1 ≤ d) {x0 : Int} {M : MM} {o : AV × MM} {P : (MM) → Prop} (r0 : ∀ r : MM, P r → o = ((9, 0), r)) {z : MM} (h : f_X19_init x0 M = some z) (hz : P z) : Sem g d YX19_init 0 [(1, x0)] [] M o := by
  delta f_X19_init at h
  refine S_aload_n (i := 0) dX19_init_0 rfl rfl ?_
  refine P_obj q741 dX19_init_1 rfl (by omega) h (fun h => ?_)
  refine S_aload_n (i := 0) dX19_init_4 rfl rfl ?_
  refine S_bipush (z := 64) dX19_init_5 rfl ?_
  refine P_naa (k := 554) (by decide) ⟨by decide, by decide⟩ q742 dX19_init_7 h (fun r1 h => ?_)
  refine P_pfr FLX19_11 FPX19_11 (Or.inr ⟨_, rfl⟩) rfl dX19_init_10 h (fun M1 h => ?_)
  obtain rfl := r0 _ (some_P (P := fun r => P r) h hz)
  exact S_return dX19_init_13 rfl
theorem F_X19_init {g : GG} {d : Nat} (hD : 1 ≤ d) {x0 : Int} {M : MM} {r : MM} (h : f_X19_init x0 M = some r) : Sem g d YX19_init 0 (ini YX19_init [(1, x0)]) [] M ((9, 0), r) := by
  change Sem g d YX19_init 0 [(1, x0)] [] M ((9, 0), r)
  exact s_X19_init_0 hD (P := fun x => x = r) (fun q e => by rw [e]) h rfl
/-! PeerSearch$Store.<init>()V -/
theorem dX18_init_0 : decode cX18_init 0 = .ok (.aload_n 0, 1) := by decide +kernel
theorem dX18_init_1 : decode cX18_init 1 = .ok (.invokespecial 5, 3) := by decide +kernel
theorem dX18_init_4 : decode cX18_init 4 = .ok (.aload_n 0, 1) := by decide +kernel
theorem dX18_init_5 : decode cX18_init 5 = .ok (.sipush 200, 3) := by decide +kernel
theorem dX18_init_8 : decode cX18_init 8 = .ok (.anewarray 11, 3) := by decide +kernel
theorem dX18_init_11 : decode cX18_init 11 = .ok (.putfield 13, 3) := by decide +kernel
theorem dX18_init_14 : decode cX18_init 14 = .ok (.aload_n 0, 1) := by decide +kernel
theorem dX18_init_15 : decode cX18_init 15 = .ok (.new 19, 3) := by decide +kernel
theorem dX18_init_18 : decode cX18_init 18 = .ok (.dup, 1) := by decide +kernel
theorem dX18_init_19 : decode cX18_init 19 = .ok (.invokespecial 21, 3) := by decide +kernel
theorem dX18_init_22 : decode cX18_init 22 = .ok (.putfield 22, 3) := by decide +kernel
theorem dX18_init_25 : decode cX18_init 25 = .ok (.return_, 1) := by decide +kernel
def f_X18_init (x0 : Int) (M : MM) : Option (MM) :=
  nn x0 <|
  (nar 569 200 M).bind fun r1 =>
  (pfr 18 0 x0 r1.1 r1.2).bind fun M1 =>
  (nob 3 1 40 M1).bind fun r2 =>
  nn r2.1 <| (f_X3_init r2.1 r2.2).bind fun M2 =>
  (pfr 18 2 x0 r2.1 M2).bind fun M3 =>
  some M3
theorem s_X18_init_0 {g : GG} {d : Nat} (hD : 2 ≤ d) {x0 : Int} {M : MM} {o : AV × MM} {P : (MM) → Prop} (r0 : ∀ r : MM, P r → o = ((9, 0), r)) {z : MM} (h : f_X18_init x0 M = some z) (hz : P z) : Sem g d YX18_init 0 [(1, x0)] [] M o := by
  delta f_X18_init at h
  refine S_aload_n (i := 0) dX18_init_0 rfl rfl ?_
  refine P_obj q718 dX18_init_1 rfl (by omega) h (fun h => ?_)
  refine S_aload_n (i := 0) dX18_init_4 rfl rfl ?_
  refine S_sipush (z := 200) dX18_init_5 rfl ?_
  refine P_naa (k := 569) (by decide) ⟨by decide, by decide⟩ q719 dX18_init_8 h (fun r1 h => ?_)
  refine P_pfr FLX18_13 FPX18_13 (Or.inr ⟨_, rfl⟩) rfl dX18_init_11 h (fun M1 h => ?_)
  refine S_aload_n (i := 0) dX18_init_14 rfl rfl ?_
  refine P_nob NLX18_19 rfl dX18_init_15 h (fun r2 h => ?_)
  refine S_dup dX18_init_18 (Nat.le_of_ble_eq_true rfl) ?_
  refine P_invI' [] [(1, r2.1), (1, x0)] CIX3_init MLX18_21 dX18_init_19 rfl rfl rfl rfl (by omega) h (fun r h => F_X3_init (by omega) h) (fun M2 h => ?_)
  refine P_pfr FLX18_22 FPX18_22 (Or.inl ⟨_, rfl⟩) rfl dX18_init_22 h (fun M3 h => ?_)
  obtain rfl := r0 _ (some_P (P := fun r => P r) h hz)
  exact S_return dX18_init_25 rfl
theorem F_X18_init {g : GG} {d : Nat} (hD : 2 ≤ d) {x0 : Int} {M : MM} {r : MM} (h : f_X18_init x0 M = some r) : Sem g d YX18_init 0 (ini YX18_init [(1, x0)]) [] M ((9, 0), r) := by
  change Sem g d YX18_init 0 [(1, x0)] [] M ((9, 0), r)
  exact s_X18_init_0 hD (P := fun x => x = r) (fun q e => by rw [e]) h rfl
/-! PeerSearch$Table.<init>(LPeerSearch$Key;ILPeerSearch$Pool;)V -/
theorem dX20_init_0 : decode cX20_init 0 = .ok (.aload_n 0, 1) := by decide +kernel
theorem dX20_init_1 : decode cX20_init 1 = .ok (.invokespecial 3, 3) := by decide +kernel
theorem dX20_init_4 : decode cX20_init 4 = .ok (.aload_n 0, 1) := by decide +kernel
theorem dX20_init_5 : decode cX20_init 5 = .ok (.sipush 160, 3) := by decide +kernel
theorem dX20_init_8 : decode cX20_init 8 = .ok (.anewarray 11, 3) := by decide +kernel
theorem dX20_init_11 : decode cX20_init 11 = .ok (.putfield 13, 3) := by decide +kernel
theorem dX20_init_14 : decode cX20_init 14 = .ok (.aload_n 0, 1) := by decide +kernel
theorem dX20_init_15 : decode cX20_init 15 = .ok (.aload_n 1, 1) := by decide +kernel
theorem dX20_init_16 : decode cX20_init 16 = .ok (.putfield 19, 3) := by decide +kernel
theorem dX20_init_19 : decode cX20_init 19 = .ok (.aload_n 0, 1) := by decide +kernel
theorem dX20_init_20 : decode cX20_init 20 = .ok (.iload_n 2, 1) := by decide +kernel
theorem dX20_init_21 : decode cX20_init 21 = .ok (.putfield 23, 3) := by decide +kernel
theorem dX20_init_24 : decode cX20_init 24 = .ok (.aload_n 0, 1) := by decide +kernel
theorem dX20_init_25 : decode cX20_init 25 = .ok (.aload_n 3, 1) := by decide +kernel
theorem dX20_init_26 : decode cX20_init 26 = .ok (.putfield 27, 3) := by decide +kernel
theorem dX20_init_29 : decode cX20_init 29 = .ok (.aload_n 0, 1) := by decide +kernel
theorem dX20_init_30 : decode cX20_init 30 = .ok (.invokevirtual 31, 3) := by decide +kernel
theorem dX20_init_33 : decode cX20_init 33 = .ok (.return_, 1) := by decide +kernel
def f_X20_init (x0 x1 x2 x3 : Int) (M : MM) : Option (MM) :=
  nn x0 <|
  (nar 588 160 M).bind fun r1 =>
  (pfr 20 3 x0 r1.1 r1.2).bind fun M1 =>
  (pfr 20 0 x0 x1 M1).bind fun M2 =>
  (pfi 20 1 x0 x2 M2).bind fun M3 =>
  (pfr 20 2 x0 x3 M3).bind fun M4 =>
  ck 20 x0 M4 <| (f_X20_clear x0 M4).bind fun M5 =>
  some M5
theorem s_X20_init_0 {g : GG} {d : Nat} (hD : 5 ≤ d) {x0 x1 x2 x3 : Int} {M : MM} {o : AV × MM} {P : (MM) → Prop} (r0 : ∀ r : MM, P r → o = ((9, 0), r)) {z : MM} (h : f_X20_init x0 x1 x2 x3 M = some z) (hz : P z) : Sem g d YX20_init 0 [(1, x0), (1, x1), (0, x2), (1, x3)] [] M o := by
  delta f_X20_init at h
  refine S_aload_n (i := 0) dX20_init_0 rfl rfl ?_
  refine P_obj q770 dX20_init_1 rfl (by omega) h (fun h => ?_)
  refine S_aload_n (i := 0) dX20_init_4 rfl rfl ?_
  refine S_sipush (z := 160) dX20_init_5 rfl ?_
  refine P_naa (k := 588) (by decide) ⟨by decide, by decide⟩ q771 dX20_init_8 h (fun r1 h => ?_)
  refine P_pfr FLX20_13 FPX20_13 (Or.inr ⟨_, rfl⟩) rfl dX20_init_11 h (fun M1 h => ?_)
  refine S_aload_n (i := 0) dX20_init_14 rfl rfl ?_
  refine S_aload_n (i := 1) dX20_init_15 rfl rfl ?_
  refine P_pfr FLX20_19 FPX20_19 (Or.inl ⟨_, rfl⟩) rfl dX20_init_16 h (fun M2 h => ?_)
  refine S_aload_n (i := 0) dX20_init_19 rfl rfl ?_
  refine S_iload_n (i := 2) dX20_init_20 rfl rfl ?_
  refine P_pfi FLX20_23 FPX20_23 rfl dX20_init_21 h (fun M3 h => ?_)
  refine S_aload_n (i := 0) dX20_init_24 rfl rfl ?_
  refine S_aload_n (i := 3) dX20_init_25 rfl rfl ?_
  refine P_pfr FLX20_27 FPX20_27 (Or.inl ⟨_, rfl⟩) rfl dX20_init_26 h (fun M4 h => ?_)
  refine S_aload_n (i := 0) dX20_init_29 rfl rfl ?_
  refine P_invVm' [] [] CVX20_clear MLX20_31 dX20_init_30 rfl rfl rfl rfl (by omega) h (fun r h => F_X20_clear (by omega) h) (fun M5 h => ?_)
  obtain rfl := r0 _ (some_P (P := fun r => P r) h hz)
  exact S_return dX20_init_33 rfl
theorem F_X20_init {g : GG} {d : Nat} (hD : 5 ≤ d) {x0 x1 x2 x3 : Int} {M : MM} {r : MM} (h : f_X20_init x0 x1 x2 x3 M = some r) : Sem g d YX20_init 0 (ini YX20_init [(1, x0), (1, x1), (0, x2), (1, x3)]) [] M ((9, 0), r) := by
  change Sem g d YX20_init 0 [(1, x0), (1, x1), (0, x2), (1, x3)] [] M ((9, 0), r)
  exact s_X20_init_0 hD (P := fun x => x = r) (fun q e => by rw [e]) h rfl
/-! PeerSearch$Peer.<init>(LPeerSearch$Board;ILPeerSearch$Key;)V -/
theorem dX17_init_0 : decode cX17_init 0 = .ok (.aload_n 0, 1) := by decide +kernel
theorem dX17_init_1 : decode cX17_init 1 = .ok (.invokespecial 3, 3) := by decide +kernel
theorem dX17_init_4 : decode cX17_init 4 = .ok (.aload_n 0, 1) := by decide +kernel
theorem dX17_init_5 : decode cX17_init 5 = .ok (.new 9, 3) := by decide +kernel
theorem dX17_init_8 : decode cX17_init 8 = .ok (.dup, 1) := by decide +kernel
theorem dX17_init_9 : decode cX17_init 9 = .ok (.invokespecial 11, 3) := by decide +kernel
theorem dX17_init_12 : decode cX17_init 12 = .ok (.putfield 12, 3) := by decide +kernel
theorem dX17_init_15 : decode cX17_init 15 = .ok (.aload_n 0, 1) := by decide +kernel
theorem dX17_init_16 : decode cX17_init 16 = .ok (.new 18, 3) := by decide +kernel
theorem dX17_init_19 : decode cX17_init 19 = .ok (.dup, 1) := by decide +kernel
theorem dX17_init_20 : decode cX17_init 20 = .ok (.invokespecial 20, 3) := by decide +kernel
theorem dX17_init_23 : decode cX17_init 23 = .ok (.putfield 21, 3) := by decide +kernel
theorem dX17_init_26 : decode cX17_init 26 = .ok (.aload_n 0, 1) := by decide +kernel
theorem dX17_init_27 : decode cX17_init 27 = .ok (.new 25, 3) := by decide +kernel
theorem dX17_init_30 : decode cX17_init 30 = .ok (.dup, 1) := by decide +kernel
theorem dX17_init_31 : decode cX17_init 31 = .ok (.invokespecial 27, 3) := by decide +kernel
theorem dX17_init_34 : decode cX17_init 34 = .ok (.putfield 28, 3) := by decide +kernel
theorem dX17_init_37 : decode cX17_init 37 = .ok (.aload_n 0, 1) := by decide +kernel
theorem dX17_init_38 : decode cX17_init 38 = .ok (.bipush 40, 2) := by decide +kernel
theorem dX17_init_40 : decode cX17_init 40 = .ok (.anewarray 32, 3) := by decide +kernel
theorem dX17_init_43 : decode cX17_init 43 = .ok (.putfield 34, 3) := by decide +kernel
theorem dX17_init_46 : decode cX17_init 46 = .ok (.aload_n 0, 1) := by decide +kernel
theorem dX17_init_47 : decode cX17_init 47 = .ok (.iconst 1, 1) := by decide +kernel
theorem dX17_init_48 : decode cX17_init 48 = .ok (.putfield 38, 3) := by decide +kernel
theorem dX17_init_51 : decode cX17_init 51 = .ok (.aload_n 0, 1) := by decide +kernel
theorem dX17_init_52 : decode cX17_init 52 = .ok (.aload_n 1, 1) := by decide +kernel
theorem dX17_init_53 : decode cX17_init 53 = .ok (.putfield 42, 3) := by decide +kernel
theorem dX17_init_56 : decode cX17_init 56 = .ok (.aload_n 0, 1) := by decide +kernel
theorem dX17_init_57 : decode cX17_init 57 = .ok (.iload_n 2, 1) := by decide +kernel
theorem dX17_init_58 : decode cX17_init 58 = .ok (.putfield 46, 3) := by decide +kernel
theorem dX17_init_61 : decode cX17_init 61 = .ok (.aload_n 0, 1) := by decide +kernel
theorem dX17_init_62 : decode cX17_init 62 = .ok (.getfield 12, 3) := by decide +kernel
theorem dX17_init_65 : decode cX17_init 65 = .ok (.aload_n 3, 1) := by decide +kernel
theorem dX17_init_66 : decode cX17_init 66 = .ok (.invokevirtual 49, 3) := by decide +kernel
theorem dX17_init_69 : decode cX17_init 69 = .ok (.aload_n 0, 1) := by decide +kernel
theorem dX17_init_70 : decode cX17_init 70 = .ok (.new 53, 3) := by decide +kernel
theorem dX17_init_73 : decode cX17_init 73 = .ok (.dup, 1) := by decide +kernel
theorem dX17_init_74 : decode cX17_init 74 = .ok (.aload_n 0, 1) := by decide +kernel
theorem dX17_init_75 : decode cX17_init 75 = .ok (.getfield 12, 3) := by decide +kernel
theorem dX17_init_78 : decode cX17_init 78 = .ok (.aload_n 1, 1) := by decide +kernel
theorem dX17_init_79 : decode cX17_init 79 = .ok (.getfield 55, 3) := by decide +kernel
theorem dX17_init_82 : decode cX17_init 82 = .ok (.aload_n 1, 1) := by decide +kernel
theorem dX17_init_83 : decode cX17_init 83 = .ok (.getfield 60, 3) := by decide +kernel
theorem dX17_init_86 : decode cX17_init 86 = .ok (.invokespecial 64, 3) := by decide +kernel
theorem dX17_init_89 : decode cX17_init 89 = .ok (.putfield 67, 3) := by decide +kernel
theorem dX17_init_92 : decode cX17_init 92 = .ok (.aload_n 0, 1) := by decide +kernel
theorem dX17_init_93 : decode cX17_init 93 = .ok (.new 71, 3) := by decide +kernel
theorem dX17_init_96 : decode cX17_init 96 = .ok (.dup, 1) := by decide +kernel
theorem dX17_init_97 : decode cX17_init 97 = .ok (.aload_n 1, 1) := by decide +kernel
theorem dX17_init_98 : decode cX17_init 98 = .ok (.invokespecial 73, 3) := by decide +kernel
theorem dX17_init_101 : decode cX17_init 101 = .ok (.putfield 76, 3) := by decide +kernel
theorem dX17_init_104 : decode cX17_init 104 = .ok (.return_, 1) := by decide +kernel
def f_X17_init (x0 x1 x2 x3 : Int) (M : MM) : Option (MM) :=
  nn x0 <|
  (nob 3 1 41 M).bind fun r1 =>
  nn r1.1 <| (f_X3_init r1.1 r1.2).bind fun M1 =>
  (pfr 17 2 x0 r1.1 M1).bind fun M2 =>
  (nob 18 3 42 M2).bind fun r2 =>
  nn r2.1 <| (f_X18_init r2.1 r2.2).bind fun M3 =>
  (pfr 17 6 x0 r2.1 M3).bind fun M4 =>
  (nob 19 3 43 M4).bind fun r3 =>
  nn r3.1 <| (f_X19_init r3.1 r3.2).bind fun M5 =>
  (pfr 17 7 x0 r3.1 M5).bind fun M6 =>
  (nar 603 40 M6).bind fun r4 =>
  (pfr 17 8 x0 r4.1 r4.2).bind fun M7 =>
  (pfi 17 10 x0 1 M7).bind fun M8 =>
  (pfr 17 0 x0 x1 M8).bind fun M9 =>
  (pfi 17 1 x0 x2 M9).bind fun M10 =>
  (gfr 17 2 x0 M10).bind fun v1 =>
  ck 3 v1 M10 <| (f_X3_set v1 x3 M10).bind fun M11 =>
  (nob 20 5 44 M11).bind fun r5 =>
  (gfr 17 2 x0 r5.2).bind fun v2 =>
  (gfi 6 0 x1 r5.2).bind fun v3 =>
  (gfr 6 4 x1 r5.2).bind fun v4 =>
  nn r5.1 <| (f_X20_init r5.1 v2 v3 v4 r5.2).bind fun M12 =>
  (pfr 17 5 x0 r5.1 M12).bind fun M13 =>
  (nob 11 12 45 M13).bind fun r6 =>
  nn r6.1 <| (f_X11_init r6.1 x1 r6.2).bind fun M14 =>
  (pfr 17 19 x0 r6.1 M14).bind fun M15 =>
  some M15
theorem s_X17_init_0 {g : GG} {d : Nat} (hD : 6 ≤ d) {x0 x1 x2 x3 : Int} {M : MM} {o : AV × MM} {P : (MM) → Prop} (r0 : ∀ r : MM, P r → o = ((9, 0), r)) {z : MM} (h : f_X17_init x0 x1 x2 x3 M = some z) (hz : P z) : Sem g d YX17_init 0 [(1, x0), (1, x1), (0, x2), (1, x3)] [] M o := by
  delta f_X17_init at h
  refine S_aload_n (i := 0) dX17_init_0 rfl rfl ?_
  refine P_obj q710 dX17_init_1 rfl (by omega) h (fun h => ?_)
  refine S_aload_n (i := 0) dX17_init_4 rfl rfl ?_
  refine P_nob NLX17_9 rfl dX17_init_5 h (fun r1 h => ?_)
  refine S_dup dX17_init_8 (Nat.le_of_ble_eq_true rfl) ?_
  refine P_invI' [] [(1, r1.1), (1, x0)] CIX3_init MLX17_11 dX17_init_9 rfl rfl rfl rfl (by omega) h (fun r h => F_X3_init (by omega) h) (fun M1 h => ?_)
  refine P_pfr FLX17_12 FPX17_12 (Or.inl ⟨_, rfl⟩) rfl dX17_init_12 h (fun M2 h => ?_)
  refine S_aload_n (i := 0) dX17_init_15 rfl rfl ?_
  refine P_nob NLX17_18 rfl dX17_init_16 h (fun r2 h => ?_)
  refine S_dup dX17_init_19 (Nat.le_of_ble_eq_true rfl) ?_
  refine P_invI' [] [(1, r2.1), (1, x0)] CIX18_init MLX17_20 dX17_init_20 rfl rfl rfl rfl (by omega) h (fun r h => F_X18_init (by omega) h) (fun M3 h => ?_)
  refine P_pfr FLX17_21 FPX17_21 (Or.inl ⟨_, rfl⟩) rfl dX17_init_23 h (fun M4 h => ?_)
  refine S_aload_n (i := 0) dX17_init_26 rfl rfl ?_
  refine P_nob NLX17_25 rfl dX17_init_27 h (fun r3 h => ?_)
  refine S_dup dX17_init_30 (Nat.le_of_ble_eq_true rfl) ?_
  refine P_invI' [] [(1, r3.1), (1, x0)] CIX19_init MLX17_27 dX17_init_31 rfl rfl rfl rfl (by omega) h (fun r h => F_X19_init (by omega) h) (fun M5 h => ?_)
  refine P_pfr FLX17_28 FPX17_28 (Or.inl ⟨_, rfl⟩) rfl dX17_init_34 h (fun M6 h => ?_)
  refine S_aload_n (i := 0) dX17_init_37 rfl rfl ?_
  refine S_bipush (z := 40) dX17_init_38 rfl ?_
  refine P_naa (k := 603) (by decide) ⟨by decide, by decide⟩ q759 dX17_init_40 h (fun r4 h => ?_)
  refine P_pfr FLX17_34 FPX17_34 (Or.inr ⟨_, rfl⟩) rfl dX17_init_43 h (fun M7 h => ?_)
  refine S_aload_n (i := 0) dX17_init_46 rfl rfl ?_
  refine S_iconst dX17_init_47 rfl ?_
  refine P_pfi FLX17_38 FPX17_38 rfl dX17_init_48 h (fun M8 h => ?_)
  refine S_aload_n (i := 0) dX17_init_51 rfl rfl ?_
  refine S_aload_n (i := 1) dX17_init_52 rfl rfl ?_
  refine P_pfr FLX17_42 FPX17_42 (Or.inl ⟨_, rfl⟩) rfl dX17_init_53 h (fun M9 h => ?_)
  refine S_aload_n (i := 0) dX17_init_56 rfl rfl ?_
  refine S_iload_n (i := 2) dX17_init_57 rfl rfl ?_
  refine P_pfi FLX17_46 FPX17_46 rfl dX17_init_58 h (fun M10 h => ?_)
  refine S_aload_n (i := 0) dX17_init_61 rfl rfl ?_
  refine P_gfr FLX17_12 rfl dX17_init_62 h (fun v1 h => ?_)
  refine S_aload_n (i := 3) dX17_init_65 rfl rfl ?_
  refine P_invVm' [(1, x3)] [] CVX3_set MLX17_49 dX17_init_66 rfl rfl rfl rfl (by omega) h (fun r h => F_X3_set (by omega) h) (fun M11 h => ?_)
  refine S_aload_n (i := 0) dX17_init_69 rfl rfl ?_
  refine P_nob NLX17_53 rfl dX17_init_70 h (fun r5 h => ?_)
  refine S_dup dX17_init_73 (Nat.le_of_ble_eq_true rfl) ?_
  refine S_aload_n (i := 0) dX17_init_74 rfl rfl ?_
  refine P_gfr FLX17_12 rfl dX17_init_75 h (fun v2 h => ?_)
  refine S_aload_n (i := 1) dX17_init_78 rfl rfl ?_
  refine P_gfi FLX17_55 rfl dX17_init_79 h (fun v3 h => ?_)
  refine S_aload_n (i := 1) dX17_init_82 rfl rfl ?_
  refine P_gfr FLX17_60 rfl dX17_init_83 h (fun v4 h => ?_)
  refine P_invI' [(1, v2), (0, v3), (1, v4)] [(1, r5.1), (1, x0)] CIX20_init MLX17_64 dX17_init_86 rfl rfl rfl rfl (by omega) h (fun r h => F_X20_init (by omega) h) (fun M12 h => ?_)
  refine P_pfr FLX17_67 FPX17_67 (Or.inl ⟨_, rfl⟩) rfl dX17_init_89 h (fun M13 h => ?_)
  refine S_aload_n (i := 0) dX17_init_92 rfl rfl ?_
  refine P_nob NLX17_71 rfl dX17_init_93 h (fun r6 h => ?_)
  refine S_dup dX17_init_96 (Nat.le_of_ble_eq_true rfl) ?_
  refine S_aload_n (i := 1) dX17_init_97 rfl rfl ?_
  refine P_invI' [(1, x1)] [(1, r6.1), (1, x0)] CIX11_init MLX17_73 dX17_init_98 rfl rfl rfl rfl (by omega) h (fun r h => F_X11_init (by omega) h) (fun M14 h => ?_)
  refine P_pfr FLX17_76 FPX17_76 (Or.inl ⟨_, rfl⟩) rfl dX17_init_101 h (fun M15 h => ?_)
  obtain rfl := r0 _ (some_P (P := fun r => P r) h hz)
  exact S_return dX17_init_104 rfl
theorem F_X17_init {g : GG} {d : Nat} (hD : 6 ≤ d) {x0 x1 x2 x3 : Int} {M : MM} {r : MM} (h : f_X17_init x0 x1 x2 x3 M = some r) : Sem g d YX17_init 0 (ini YX17_init [(1, x0), (1, x1), (0, x2), (1, x3)]) [] M ((9, 0), r) := by
  change Sem g d YX17_init 0 [(1, x0), (1, x1), (0, x2), (1, x3)] [] M ((9, 0), r)
  exact s_X17_init_0 hD (P := fun x => x = r) (fun q e => by rw [e]) h rfl
/-! PeerSearch.peer()I -/
theorem dX1_peer_0 : decode cX1_peer 0 = .ok (.aload_n 0, 1) := by decide +kernel
theorem dX1_peer_1 : decode cX1_peer 1 = .ok (.invokevirtual 123, 3) := by decide +kernel
theorem dX1_peer_4 : decode cX1_peer 4 = .ok (.istore_n 1, 1) := by decide +kernel
theorem dX1_peer_5 : decode cX1_peer 5 = .ok (.aload_n 0, 1) := by decide +kernel
theorem dX1_peer_6 : decode cX1_peer 6 = .ok (.getfield 70, 3) := by decide +kernel
theorem dX1_peer_9 : decode cX1_peer 9 = .ok (.getfield 127, 3) := by decide +kernel
theorem dX1_peer_12 : decode cX1_peer 12 = .ok (.bipush 32, 2) := by decide +kernel
theorem dX1_peer_14 : decode cX1_peer 14 = .ok (.if_icmp .eq 14, 3) := by decide +kernel
theorem dX1_peer_17 : decode cX1_peer 17 = .ok (.iload_n 1, 1) := by decide +kernel
theorem dX1_peer_18 : decode cX1_peer 18 = .ok (.iconst 1, 1) := by decide +kernel
theorem dX1_peer_19 : decode cX1_peer 19 = .ok (.if_icmp .lt 9, 3) := by decide +kernel
theorem dX1_peer_22 : decode cX1_peer 22 = .ok (.iload_n 1, 1) := by decide +kernel
theorem dX1_peer_23 : decode cX1_peer 23 = .ok (.bipush 20, 2) := by decide +kernel
theorem dX1_peer_25 : decode cX1_peer 25 = .ok (.if_icmp .le 5, 3) := by decide +kernel
theorem dX1_peer_28 : decode cX1_peer 28 = .ok (.iconst (-1), 1) := by decide +kernel
theorem dX1_peer_29 : decode cX1_peer 29 = .ok (.ireturn, 1) := by decide +kernel
theorem dX1_peer_30 : decode cX1_peer 30 = .ok (.aload_n 0, 1) := by decide +kernel
theorem dX1_peer_31 : decode cX1_peer 31 = .ok (.getfield 70, 3) := by decide +kernel
theorem dX1_peer_34 : decode cX1_peer 34 = .ok (.getfield 95, 3) := by decide +kernel
theorem dX1_peer_37 : decode cX1_peer 37 = .ok (.aload_n 0, 1) := by decide +kernel
theorem dX1_peer_38 : decode cX1_peer 38 = .ok (.getfield 13, 3) := by decide +kernel
theorem dX1_peer_41 : decode cX1_peer 41 = .ok (.iload_n 1, 1) := by decide +kernel
theorem dX1_peer_42 : decode cX1_peer 42 = .ok (.aload_n 0, 1) := by decide +kernel
theorem dX1_peer_43 : decode cX1_peer 43 = .ok (.getfield 41, 3) := by decide +kernel
theorem dX1_peer_46 : decode cX1_peer 46 = .ok (.invokevirtual 99, 3) := by decide +kernel
theorem dX1_peer_49 : decode cX1_peer 49 = .ok (.iconst 0, 1) := by decide +kernel
theorem dX1_peer_50 : decode cX1_peer 50 = .ok (.istore_n 2, 1) := by decide +kernel
theorem dX1_peer_51 : decode cX1_peer 51 = .ok (.iload_n 2, 1) := by decide +kernel
theorem dX1_peer_52 : decode cX1_peer 52 = .ok (.aload_n 0, 1) := by decide +kernel
theorem dX1_peer_53 : decode cX1_peer 53 = .ok (.getfield 70, 3) := by decide +kernel
theorem dX1_peer_56 : decode cX1_peer 56 = .ok (.getfield 127, 3) := by decide +kernel
theorem dX1_peer_59 : decode cX1_peer 59 = .ok (.if_icmp .ge 33, 3) := by decide +kernel
theorem dX1_peer_62 : decode cX1_peer 62 = .ok (.aload_n 0, 1) := by decide +kernel
theorem dX1_peer_63 : decode cX1_peer 63 = .ok (.getfield 70, 3) := by decide +kernel
theorem dX1_peer_66 : decode cX1_peer 66 = .ok (.getfield 114, 3) := by decide +kernel
theorem dX1_peer_69 : decode cX1_peer 69 = .ok (.iload_n 2, 1) := by decide +kernel
theorem dX1_peer_70 : decode cX1_peer 70 = .ok (.aaload, 1) := by decide +kernel
theorem dX1_peer_71 : decode cX1_peer 71 = .ok (.getfield 130, 3) := by decide +kernel
theorem dX1_peer_74 : decode cX1_peer 74 = .ok (.aload_n 0, 1) := by decide +kernel
theorem dX1_peer_75 : decode cX1_peer 75 = .ok (.getfield 41, 3) := by decide +kernel
theorem dX1_peer_78 : decode cX1_peer 78 = .ok (.invokevirtual 133, 3) := by decide +kernel
theorem dX1_peer_81 : decode cX1_peer 81 = .ok (.ifCond .eq 5, 3) := by decide +kernel
theorem dX1_peer_84 : decode cX1_peer 84 = .ok (.iconst (-1), 1) := by decide +kernel
theorem dX1_peer_85 : decode cX1_peer 85 = .ok (.ireturn, 1) := by decide +kernel
theorem dX1_peer_86 : decode cX1_peer 86 = .ok (.iinc 2 1, 3) := by decide +kernel
theorem dX1_peer_89 : decode cX1_peer 89 = .ok (.goto (-38), 3) := by decide +kernel
theorem dX1_peer_92 : decode cX1_peer 92 = .ok (.aload_n 0, 1) := by decide +kernel
theorem dX1_peer_93 : decode cX1_peer 93 = .ok (.getfield 70, 3) := by decide +kernel
theorem dX1_peer_96 : decode cX1_peer 96 = .ok (.getfield 114, 3) := by decide +kernel
theorem dX1_peer_99 : decode cX1_peer 99 = .ok (.aload_n 0, 1) := by decide +kernel
theorem dX1_peer_100 : decode cX1_peer 100 = .ok (.getfield 70, 3) := by decide +kernel
theorem dX1_peer_103 : decode cX1_peer 103 = .ok (.getfield 127, 3) := by decide +kernel
theorem dX1_peer_106 : decode cX1_peer 106 = .ok (.new 119, 3) := by decide +kernel
theorem dX1_peer_109 : decode cX1_peer 109 = .ok (.dup, 1) := by decide +kernel
theorem dX1_peer_110 : decode cX1_peer 110 = .ok (.aload_n 0, 1) := by decide +kernel
theorem dX1_peer_111 : decode cX1_peer 111 = .ok (.getfield 70, 3) := by decide +kernel
theorem dX1_peer_114 : decode cX1_peer 114 = .ok (.aload_n 0, 1) := by decide +kernel
theorem dX1_peer_115 : decode cX1_peer 115 = .ok (.getfield 70, 3) := by decide +kernel
theorem dX1_peer_118 : decode cX1_peer 118 = .ok (.getfield 127, 3) := by decide +kernel
theorem dX1_peer_121 : decode cX1_peer 121 = .ok (.aload_n 0, 1) := by decide +kernel
theorem dX1_peer_122 : decode cX1_peer 122 = .ok (.getfield 41, 3) := by decide +kernel
theorem dX1_peer_125 : decode cX1_peer 125 = .ok (.invokespecial 137, 3) := by decide +kernel
theorem dX1_peer_128 : decode cX1_peer 128 = .ok (.aastore, 1) := by decide +kernel
theorem dX1_peer_129 : decode cX1_peer 129 = .ok (.aload_n 0, 1) := by decide +kernel
theorem dX1_peer_130 : decode cX1_peer 130 = .ok (.getfield 70, 3) := by decide +kernel
theorem dX1_peer_133 : decode cX1_peer 133 = .ok (.dup, 1) := by decide +kernel
theorem dX1_peer_134 : decode cX1_peer 134 = .ok (.getfield 127, 3) := by decide +kernel
theorem dX1_peer_137 : decode cX1_peer 137 = .ok (.iconst 1, 1) := by decide +kernel
theorem dX1_peer_138 : decode cX1_peer 138 = .ok (.iadd, 1) := by decide +kernel
theorem dX1_peer_139 : decode cX1_peer 139 = .ok (.putfield 127, 3) := by decide +kernel
theorem dX1_peer_142 : decode cX1_peer 142 = .ok (.aload_n 0, 1) := by decide +kernel
theorem dX1_peer_143 : decode cX1_peer 143 = .ok (.getfield 70, 3) := by decide +kernel
theorem dX1_peer_146 : decode cX1_peer 146 = .ok (.getfield 127, 3) := by decide +kernel
theorem dX1_peer_149 : decode cX1_peer 149 = .ok (.iconst 1, 1) := by decide +kernel
theorem dX1_peer_150 : decode cX1_peer 150 = .ok (.isub, 1) := by decide +kernel
theorem dX1_peer_151 : decode cX1_peer 151 = .ok (.ireturn, 1) := by decide +kernel
def j_X1_peer_92 (x0 : Int) (M : MM) : Option (Int × MM) :=
  (gfr 1 0 x0 M).bind fun v1 =>
  (gfr 6 5 v1 M).bind fun v2 =>
  (gfr 1 0 x0 M).bind fun v3 =>
  (gfi 6 6 v3 M).bind fun v4 =>
  (nob 17 20 46 M).bind fun r1 =>
  (gfr 1 0 x0 r1.2).bind fun v5 =>
  (gfr 1 0 x0 r1.2).bind fun v6 =>
  (gfi 6 6 v6 r1.2).bind fun v7 =>
  (gfr 1 10 x0 r1.2).bind fun v8 =>
  nn r1.1 <| (f_X17_init r1.1 v5 v7 v8 r1.2).bind fun M1 =>
  (sar 7 v2 v4 r1.1 M1).bind fun M2 =>
  (gfr 1 0 x0 M2).bind fun v9 =>
  (gfi 6 6 v9 M2).bind fun v10 =>
  (pfi 6 6 v9 (v10 + 1) M2).bind fun M3 =>
  (gfr 1 0 x0 M3).bind fun v11 =>
  (gfi 6 6 v11 M3).bind fun v12 =>
  some (v12 - 1, M3)
def b_X1_peer_51 (x0 x2 : Int) (M : MM) : Option ((Int) ⊕ (Int × MM)) :=
  (gfr 1 0 x0 M).bind fun v1 =>
  (gfi 6 6 v1 M).bind fun v2 =>
  if w32 x2 < w32 v2 then
    (gfr 1 0 x0 M).bind fun v3 =>
    (gfr 6 5 v3 M).bind fun v4 =>
    (lar 7 v4 x2 M).bind fun v5 =>
    (gfr 17 2 v5 M).bind fun v6 =>
    (gfr 1 10 x0 M).bind fun v7 =>
    ck 3 v6 M <| (f_X3_is v6 v7 M).bind fun v8 =>
    if w32 v8 = 0 then
      cnt (x2 + 1)
    else
      xit (some ((-1), M))
  else
    xit (j_X1_peer_92 x0 M)
def l_X1_peer_51 (x0 x2 : Int) (M : MM) : Option (Int × MM) := lpN (fun s : Int => b_X1_peer_51 x0 s M) FU x2
def j_X1_peer_28 (M : MM) : Option (Int × MM) :=
  some ((-1), M)
def f_X1_peer (x0 : Int) (M : MM) : Option (Int × MM) :=
  ck 1 x0 M <| (f_X1_take x0 M).bind fun r1 =>
  (gfr 1 0 x0 r1.2).bind fun v1 =>
  (gfi 6 6 v1 r1.2).bind fun v2 =>
  if w32 v2 = w32 32 then
    j_X1_peer_28 r1.2
  else
    if w32 r1.1 < w32 1 then
      j_X1_peer_28 r1.2
    else
      if w32 20 < w32 r1.1 then
        j_X1_peer_28 r1.2
      else
        (gfr 1 0 x0 r1.2).bind fun v3 =>
        (gfr 6 3 v3 r1.2).bind fun v4 =>
        (gfr 1 3 x0 r1.2).bind fun v5 =>
        (gfr 1 10 x0 r1.2).bind fun v6 =>
        ck 8 v4 r1.2 <| (f_X8_of v4 v5 r1.1 v6 r1.2).bind fun M1 =>
        l_X1_peer_51 x0 0 M1
theorem s_X1_peer_92 {g : GG} {d : Nat} (hD : 7 ≤ d) {x0 : Int} {M : MM} {o : AV × MM} {P : (Int × MM) → Prop} (r0 : ∀ r : Int × MM, P r → o = ((0, r.1), r.2)) {z : Int × MM} (h : j_X1_peer_92 x0 M = some z) (hz : P z) : Sem g d YX1_peer 92 [(1, x0), (9, 0), (9, 0)] [] M o := by
  delta j_X1_peer_92 at h
  refine S_aload_n (i := 0) dX1_peer_92 rfl rfl ?_
  refine P_gfr FLX1_70 rfl dX1_peer_93 h (fun v1 h => ?_)
  refine P_gfr FLX1_114 rfl dX1_peer_96 h (fun v2 h => ?_)
  refine S_aload_n (i := 0) dX1_peer_99 rfl rfl ?_
  refine P_gfr FLX1_70 rfl dX1_peer_100 h (fun v3 h => ?_)
  refine P_gfi FLX1_127 rfl dX1_peer_103 h (fun v4 h => ?_)
  refine P_nob NLX1_119 rfl dX1_peer_106 h (fun r1 h => ?_)
  refine S_dup dX1_peer_109 (Nat.le_of_ble_eq_true rfl) ?_
  refine S_aload_n (i := 0) dX1_peer_110 rfl rfl ?_
  refine P_gfr FLX1_70 rfl dX1_peer_111 h (fun v5 h => ?_)
  refine S_aload_n (i := 0) dX1_peer_114 rfl rfl ?_
  refine P_gfr FLX1_70 rfl dX1_peer_115 h (fun v6 h => ?_)
  refine P_gfi FLX1_127 rfl dX1_peer_118 h (fun v7 h => ?_)
  refine S_aload_n (i := 0) dX1_peer_121 rfl rfl ?_
  refine P_gfr FLX1_41 rfl dX1_peer_122 h (fun v8 h => ?_)
  refine P_invI' [(1, v5), (0, v7), (1, v8)] [(1, r1.1), (0, v4), (1, v2)] CIX17_init MLX1_137 dX1_peer_125 rfl rfl rfl rfl (by omega) h (fun r h => F_X17_init (by omega) h) (fun M1 h => ?_)
  refine P_sar (t := 7) ⟨by decide, by decide⟩ dX1_peer_128 h (fun M2 h => ?_)
  refine S_aload_n (i := 0) dX1_peer_129 rfl rfl ?_
  refine P_gfr FLX1_70 rfl dX1_peer_130 h (fun v9 h => ?_)
  refine S_dup dX1_peer_133 (Nat.le_of_ble_eq_true rfl) ?_
  refine P_gfi FLX1_127 rfl dX1_peer_134 h (fun v10 h => ?_)
  refine S_iconst dX1_peer_137 rfl ?_
  refine S_iadd dX1_peer_138 ?_
  refine P_pfi FLX1_127 FPX1_127 rfl dX1_peer_139 h (fun M3 h => ?_)
  refine S_aload_n (i := 0) dX1_peer_142 rfl rfl ?_
  refine P_gfr FLX1_70 rfl dX1_peer_143 h (fun v11 h => ?_)
  refine P_gfi FLX1_127 rfl dX1_peer_146 h (fun v12 h => ?_)
  refine S_iconst dX1_peer_149 rfl ?_
  refine S_isub dX1_peer_150 ?_
  obtain rfl := r0 _ (some_P (P := fun r => P r) h hz)
  exact P_ret dX1_peer_151 rfl (Or.inl rfl)
theorem s_X1_peer_51 {g : GG} {d : Nat} (hD : 7 ≤ d) {x0 x2 : Int} {M : MM} {o : AV × MM} {P : ((Int) ⊕ (Int × MM)) → Prop} (c0 : ∀ s : Int, P (.inl s) → Sem g d YX1_peer 51 [(1, x0), (9, 0), (0, s)] [] M o) (r0 : ∀ r : Int × MM, P (.inr r) → o = ((0, r.1), r.2)) {z : (Int) ⊕ (Int × MM)} (h : b_X1_peer_51 x0 x2 M = some z) (hz : P z) : Sem g d YX1_peer 51 [(1, x0), (9, 0), (0, x2)] [] M o := by
  delta b_X1_peer_51 at h
  refine S_iload_n (i := 2) dX1_peer_51 rfl rfl ?_
  refine S_aload_n (i := 0) dX1_peer_52 rfl rfl ?_
  refine P_gfr FLX1_70 rfl dX1_peer_53 h (fun v1 h => ?_)
  refine P_gfi FLX1_127 rfl dX1_peer_56 h (fun v2 h => ?_)
  refine P_icmp_ge (tgt := 92) dX1_peer_59 rfl h (fun h => ?_) (fun h => ?_)
  · refine S_weak (ls' := [(1, x0), (9, 0), (9, 0)]) ⟨Or.inr rfl, ⟨Or.inl rfl, ⟨Or.inl rfl, trivial⟩⟩⟩ ?_
    obtain ⟨z0, h, hz⟩ := xit_some' (P := fun r => P r) h hz
    exact s_X1_peer_92 hD (P := fun r => P (.inr r)) r0 h hz
  · refine S_aload_n (i := 0) dX1_peer_62 rfl rfl ?_
    refine P_gfr FLX1_70 rfl dX1_peer_63 h (fun v3 h => ?_)
    refine P_gfr FLX1_114 rfl dX1_peer_66 h (fun v4 h => ?_)
    refine S_iload_n (i := 2) dX1_peer_69 rfl rfl ?_
    refine P_lar (t := 7) ⟨by decide, by decide⟩ dX1_peer_70 h (fun v5 h => ?_)
    refine P_gfr FLX1_130 rfl dX1_peer_71 h (fun v6 h => ?_)
    refine S_aload_n (i := 0) dX1_peer_74 rfl rfl ?_
    refine P_gfr FLX1_41 rfl dX1_peer_75 h (fun v7 h => ?_)
    refine P_invVp 0 [(1, v7)] [] CVX3_is MLX1_133 dX1_peer_78 rfl rfl rfl rfl rfl (by omega) h (fun r h => F_X3_is (by omega) h) (fun v8 h => ?_)
    refine P_if_eq (tgt := 86) dX1_peer_81 rfl h (fun h => ?_) (fun h => ?_)
    · refine S_iinc dX1_peer_86 rfl rfl rfl ?_
      change Sem g d YX1_peer 89 [(1, x0), (9, 0), (0, x2 + 1)] [] M o
      refine S_goto (tgt := 51) dX1_peer_89 rfl ?_
      exact c0 (x2 + 1) (some_P (P := fun r => P r) h hz)
    · obtain ⟨z0, h, hz⟩ := xit_some' (P := fun r => P r) h hz
      refine S_iconst dX1_peer_84 rfl ?_
      obtain rfl := r0 _ (some_P (P := fun r => P (.inr r)) h hz)
      exact P_ret dX1_peer_85 rfl (Or.inl rfl)
theorem sl_X1_peer_51 {g : GG} {d : Nat} (hD : 7 ≤ d) {x0 x2 : Int} {M : MM} {o : AV × MM} {P : (Int × MM) → Prop} (r0 : ∀ r : Int × MM, P r → o = ((0, r.1), r.2)) {z : Int × MM} (h : l_X1_peer_51 x0 x2 M = some z) (hz : P z) : Sem g d YX1_peer 51 [(1, x0), (9, 0), (0, x2)] [] M o := by
  refine lp_sound (S := fun s : Int => Sem g d YX1_peer 51 [(1, x0), (9, 0), (0, s)] [] M o) (P := P) ?_ FU x2 z h hz
  intro s x hx hP
  exact s_X1_peer_51 hD (P := Sum.elim (fun s : Int => Sem g d YX1_peer 51 [(1, x0), (9, 0), (0, s)] [] M o) P) (fun s h => h) (fun s h => r0 s h) hx hP
theorem s_X1_peer_28 {g : GG} {d : Nat} (hD : 7 ≤ d) {M : MM} {o : AV × MM} {P : (Int × MM) → Prop} (r0 : ∀ r : Int × MM, P r → o = ((0, r.1), r.2)) {z : Int × MM} (h : j_X1_peer_28 M = some z) (hz : P z) : Sem g d YX1_peer 28 [(9, 0), (9, 0), (9, 0)] [] M o := by
  delta j_X1_peer_28 at h
  refine S_iconst dX1_peer_28 rfl ?_
  obtain rfl := r0 _ (some_P (P := fun r => P r) h hz)
  exact P_ret dX1_peer_29 rfl (Or.inl rfl)
theorem s_X1_peer_0 {g : GG} {d : Nat} (hD : 7 ≤ d) {x0 : Int} {M : MM} {o : AV × MM} {P : (Int × MM) → Prop} (r0 : ∀ r : Int × MM, P r → o = ((0, r.1), r.2)) {z : Int × MM} (h : f_X1_peer x0 M = some z) (hz : P z) : Sem g d YX1_peer 0 [(1, x0), (9, 0), (9, 0)] [] M o := by
  delta f_X1_peer at h
  refine S_aload_n (i := 0) dX1_peer_0 rfl rfl ?_
  refine P_invVe 0 [] [] CVX1_take MLX1_123 dX1_peer_1 rfl rfl rfl rfl rfl (by omega) h (fun r h => F_X1_take (by omega) h) (fun r1 h => ?_)
  refine S_istore_n (i := 1) dX1_peer_4 rfl (Nat.le_of_ble_eq_true rfl) rfl rfl ?_
  change Sem g d YX1_peer 5 [(1, x0), (0, r1.1), (9, 0)] [] r1.2 o
  refine S_aload_n (i := 0) dX1_peer_5 rfl rfl ?_
  refine P_gfr FLX1_70 rfl dX1_peer_6 h (fun v1 h => ?_)
  refine P_gfi FLX1_127 rfl dX1_peer_9 h (fun v2 h => ?_)
  refine S_bipush (z := 32) dX1_peer_12 rfl ?_
  refine P_icmp_eq (tgt := 28) dX1_peer_14 rfl h (fun h => ?_) (fun h => ?_)
  · refine S_weak (ls' := [(9, 0), (9, 0), (9, 0)]) ⟨Or.inl rfl, ⟨Or.inl rfl, ⟨Or.inl rfl, trivial⟩⟩⟩ ?_
    exact s_X1_peer_28 hD r0 h hz
  · refine S_iload_n (i := 1) dX1_peer_17 rfl rfl ?_
    refine S_iconst dX1_peer_18 rfl ?_
    refine P_icmp_lt (tgt := 28) dX1_peer_19 rfl h (fun h => ?_) (fun h => ?_)
    · refine S_weak (ls' := [(9, 0), (9, 0), (9, 0)]) ⟨Or.inl rfl, ⟨Or.inl rfl, ⟨Or.inl rfl, trivial⟩⟩⟩ ?_
      exact s_X1_peer_28 hD r0 h hz
    · refine S_iload_n (i := 1) dX1_peer_22 rfl rfl ?_
      refine S_bipush (z := 20) dX1_peer_23 rfl ?_
      refine P_icmp_le (tgt := 30) dX1_peer_25 rfl h (fun h => ?_) (fun h => ?_)
      · refine S_aload_n (i := 0) dX1_peer_30 rfl rfl ?_
        refine P_gfr FLX1_70 rfl dX1_peer_31 h (fun v3 h => ?_)
        refine P_gfr FLX1_95 rfl dX1_peer_34 h (fun v4 h => ?_)
        refine S_aload_n (i := 0) dX1_peer_37 rfl rfl ?_
        refine P_gfr FLX1_13 rfl dX1_peer_38 h (fun v5 h => ?_)
        refine S_iload_n (i := 1) dX1_peer_41 rfl rfl ?_
        refine S_aload_n (i := 0) dX1_peer_42 rfl rfl ?_
        refine P_gfr FLX1_41 rfl dX1_peer_43 h (fun v6 h => ?_)
        refine P_invVm' [(1, v5), (0, r1.1), (1, v6)] [] CVX8_of MLX1_99 dX1_peer_46 rfl rfl rfl rfl (by omega) h (fun r h => F_X8_of (by omega) h) (fun M1 h => ?_)
        refine S_iconst dX1_peer_49 rfl ?_
        refine S_istore_n (i := 2) dX1_peer_50 rfl (Nat.le_of_ble_eq_true rfl) rfl rfl ?_
        change Sem g d YX1_peer 51 [(1, x0), (0, r1.1), (0, 0)] [] M1 o
        refine S_weak (ls' := [(1, x0), (9, 0), (0, 0)]) ⟨Or.inr rfl, ⟨Or.inl rfl, ⟨Or.inr rfl, trivial⟩⟩⟩ ?_
        exact sl_X1_peer_51 hD r0 h hz
      · refine S_weak (ls' := [(9, 0), (9, 0), (9, 0)]) ⟨Or.inl rfl, ⟨Or.inl rfl, ⟨Or.inl rfl, trivial⟩⟩⟩ ?_
        exact s_X1_peer_28 hD r0 h hz
theorem F_X1_peer {g : GG} {d : Nat} (hD : 7 ≤ d) {x0 : Int} {M : MM} {r : Int × MM} (h : f_X1_peer x0 M = some r) : Sem g d YX1_peer 0 (ini YX1_peer [(1, x0)]) [] M ((0, r.1), r.2) := by
  change Sem g d YX1_peer 0 [(1, x0), (9, 0), (9, 0)] [] M ((0, r.1), r.2)
  exact s_X1_peer_0 hD (P := fun x => x = r) (fun q e => by rw [e]) h rfl
/-! PeerSearch.posting(III)I -/
theorem dX1_posting_0 : decode cX1_posting 0 = .ok (.aload_n 0, 1) := by decide +kernel
theorem dX1_posting_1 : decode cX1_posting 1 = .ok (.iload_n 1, 1) := by decide +kernel
theorem dX1_posting_2 : decode cX1_posting 2 = .ok (.invokevirtual 113, 3) := by decide +kernel
theorem dX1_posting_5 : decode cX1_posting 5 = .ok (.ifCond .eq 26, 3) := by decide +kernel
theorem dX1_posting_8 : decode cX1_posting 8 = .ok (.iload_n 2, 1) := by decide +kernel
theorem dX1_posting_9 : decode cX1_posting 9 = .ok (.ifCond .lt 22, 3) := by decide +kernel
theorem dX1_posting_12 : decode cX1_posting 12 = .ok (.iload_n 2, 1) := by decide +kernel
theorem dX1_posting_13 : decode cX1_posting 13 = .ok (.aload_n 0, 1) := by decide +kernel
theorem dX1_posting_14 : decode cX1_posting 14 = .ok (.getfield 70, 3) := by decide +kernel
theorem dX1_posting_17 : decode cX1_posting 17 = .ok (.getfield 114, 3) := by decide +kernel
theorem dX1_posting_20 : decode cX1_posting 20 = .ok (.iload_n 1, 1) := by decide +kernel
theorem dX1_posting_21 : decode cX1_posting 21 = .ok (.aaload, 1) := by decide +kernel
theorem dX1_posting_22 : decode cX1_posting 22 = .ok (.getfield 291, 3) := by decide +kernel
theorem dX1_posting_25 : decode cX1_posting 25 = .ok (.getfield 368, 3) := by decide +kernel
theorem dX1_posting_28 : decode cX1_posting 28 = .ok (.if_icmp .lt 5, 3) := by decide +kernel
theorem dX1_posting_31 : decode cX1_posting 31 = .ok (.iconst (-1), 1) := by decide +kernel
theorem dX1_posting_32 : decode cX1_posting 32 = .ok (.ireturn, 1) := by decide +kernel
theorem dX1_posting_33 : decode cX1_posting 33 = .ok (.aload_n 0, 1) := by decide +kernel
theorem dX1_posting_34 : decode cX1_posting 34 = .ok (.getfield 70, 3) := by decide +kernel
theorem dX1_posting_37 : decode cX1_posting 37 = .ok (.getfield 114, 3) := by decide +kernel
theorem dX1_posting_40 : decode cX1_posting 40 = .ok (.iload_n 1, 1) := by decide +kernel
theorem dX1_posting_41 : decode cX1_posting 41 = .ok (.aaload, 1) := by decide +kernel
theorem dX1_posting_42 : decode cX1_posting 42 = .ok (.getfield 291, 3) := by decide +kernel
theorem dX1_posting_45 : decode cX1_posting 45 = .ok (.getfield 392, 3) := by decide +kernel
theorem dX1_posting_48 : decode cX1_posting 48 = .ok (.iload_n 2, 1) := by decide +kernel
theorem dX1_posting_49 : decode cX1_posting 49 = .ok (.aaload, 1) := by decide +kernel
theorem dX1_posting_50 : decode cX1_posting 50 = .ok (.astore 4, 2) := by decide +kernel
theorem dX1_posting_52 : decode cX1_posting 52 = .ok (.iload_n 3, 1) := by decide +kernel
theorem dX1_posting_53 : decode cX1_posting 53 = .ok (.tableswitch 55 0 3 #[31, 37, 43, 49], 31) := by decide +kernel
theorem dX1_posting_84 : decode cX1_posting 84 = .ok (.aload 4, 2) := by decide +kernel
theorem dX1_posting_86 : decode cX1_posting 86 = .ok (.getfield 396, 3) := by decide +kernel
theorem dX1_posting_89 : decode cX1_posting 89 = .ok (.ireturn, 1) := by decide +kernel
theorem dX1_posting_90 : decode cX1_posting 90 = .ok (.aload 4, 2) := by decide +kernel
theorem dX1_posting_92 : decode cX1_posting 92 = .ok (.getfield 401, 3) := by decide +kernel
theorem dX1_posting_95 : decode cX1_posting 95 = .ok (.ireturn, 1) := by decide +kernel
theorem dX1_posting_96 : decode cX1_posting 96 = .ok (.aload 4, 2) := by decide +kernel
theorem dX1_posting_98 : decode cX1_posting 98 = .ok (.getfield 404, 3) := by decide +kernel
theorem dX1_posting_101 : decode cX1_posting 101 = .ok (.ireturn, 1) := by decide +kernel
theorem dX1_posting_102 : decode cX1_posting 102 = .ok (.aload 4, 2) := by decide +kernel
theorem dX1_posting_104 : decode cX1_posting 104 = .ok (.getfield 407, 3) := by decide +kernel
theorem dX1_posting_107 : decode cX1_posting 107 = .ok (.ireturn, 1) := by decide +kernel
theorem dX1_posting_108 : decode cX1_posting 108 = .ok (.iload_n 3, 1) := by decide +kernel
theorem dX1_posting_109 : decode cX1_posting 109 = .ok (.iconst 4, 1) := by decide +kernel
theorem dX1_posting_110 : decode cX1_posting 110 = .ok (.if_icmp .lt 24, 3) := by decide +kernel
theorem dX1_posting_113 : decode cX1_posting 113 = .ok (.iload_n 3, 1) := by decide +kernel
theorem dX1_posting_114 : decode cX1_posting 114 = .ok (.bipush 9, 2) := by decide +kernel
theorem dX1_posting_116 : decode cX1_posting 116 = .ok (.if_icmp .ge 18, 3) := by decide +kernel
theorem dX1_posting_119 : decode cX1_posting 119 = .ok (.aload 4, 2) := by decide +kernel
theorem dX1_posting_121 : decode cX1_posting 121 = .ok (.getfield 409, 3) := by decide +kernel
theorem dX1_posting_124 : decode cX1_posting 124 = .ok (.getfield 105, 3) := by decide +kernel
theorem dX1_posting_127 : decode cX1_posting 127 = .ok (.iload_n 3, 1) := by decide +kernel
theorem dX1_posting_128 : decode cX1_posting 128 = .ok (.iconst 4, 1) := by decide +kernel
theorem dX1_posting_129 : decode cX1_posting 129 = .ok (.isub, 1) := by decide +kernel
theorem dX1_posting_130 : decode cX1_posting 130 = .ok (.iaload, 1) := by decide +kernel
theorem dX1_posting_131 : decode cX1_posting 131 = .ok (.goto 4, 3) := by decide +kernel
theorem dX1_posting_134 : decode cX1_posting 134 = .ok (.iconst (-1), 1) := by decide +kernel
theorem dX1_posting_135 : decode cX1_posting 135 = .ok (.ireturn, 1) := by decide +kernel
def j_X1_posting_135 (y0 : Int) (M : MM) : Option (Int) :=
  some y0
def j_X1_posting_134 (M : MM) : Option (Int) :=
  j_X1_posting_135 (-1) M
def j_X1_posting_31 (M : MM) : Option (Int) :=
  some (-1)
def f_X1_posting (x0 x1 x2 x3 : Int) (M : MM) : Option (Int) :=
  ck 1 x0 M <| (f_X1_has x0 x1 M).bind fun v1 =>
  if w32 v1 = 0 then
    j_X1_posting_31 M
  else
    if w32 x2 < 0 then
      j_X1_posting_31 M
    else
      (gfr 1 0 x0 M).bind fun v2 =>
      (gfr 6 5 v2 M).bind fun v3 =>
      (lar 7 v3 x1 M).bind fun v4 =>
      (gfr 17 6 v4 M).bind fun v5 =>
      (gfi 18 1 v5 M).bind fun v6 =>
      if w32 x2 < w32 v6 then
        (gfr 1 0 x0 M).bind fun v7 =>
        (gfr 6 5 v7 M).bind fun v8 =>
        (lar 7 v8 x1 M).bind fun v9 =>
        (gfr 17 6 v9 M).bind fun v10 =>
        (gfr 18 0 v10 M).bind fun v11 =>
        (lar 9 v11 x2 M).bind fun v12 =>
        swt (w32 x3) 0 [
          (
          (gfi 28 1 v12 M).bind fun v13 =>
          some v13
          ),
          (
          (gfi 28 2 v12 M).bind fun v14 =>
          some v14
          ),
          (
          (gfi 28 3 v12 M).bind fun v15 =>
          some v15
          ),
          (
          (gfi 28 4 v12 M).bind fun v16 =>
          some v16
          )
          ] (
          if w32 x3 < w32 4 then
            j_X1_posting_134 M
          else
            if w32 x3 < w32 9 then
              (gfr 28 0 v12 M).bind fun v17 =>
              (gfr 3 0 v17 M).bind fun v18 =>
              (lai v18 (x3 - 4) M).bind fun v19 =>
              j_X1_posting_135 v19 M
            else
              j_X1_posting_134 M
          )
      else
        j_X1_posting_31 M
theorem s_X1_posting_135 {g : GG} {d : Nat} (hD : 2 ≤ d) {y0 : Int} {M : MM} {o : AV × MM} {P : (Int) → Prop} (r0 : ∀ r : Int, P r → o = ((0, r), M)) {z : Int} (h : j_X1_posting_135 y0 M = some z) (hz : P z) : Sem g d YX1_posting 135 [(9, 0), (9, 0), (9, 0), (9, 0), (9, 0)] [(0, y0)] M o := by
  delta j_X1_posting_135 at h
  obtain rfl := r0 _ (some_P (P := fun r => P r) h hz)
  exact P_ret dX1_posting_135 rfl (Or.inl rfl)
theorem s_X1_posting_134 {g : GG} {d : Nat} (hD : 2 ≤ d) {M : MM} {o : AV × MM} {P : (Int) → Prop} (r0 : ∀ r : Int, P r → o = ((0, r), M)) {z : Int} (h : j_X1_posting_134 M = some z) (hz : P z) : Sem g d YX1_posting 134 [(9, 0), (9, 0), (9, 0), (9, 0), (9, 0)] [] M o := by
  delta j_X1_posting_134 at h
  refine S_iconst dX1_posting_134 rfl ?_
  exact s_X1_posting_135 hD r0 h hz
theorem s_X1_posting_31 {g : GG} {d : Nat} (hD : 2 ≤ d) {M : MM} {o : AV × MM} {P : (Int) → Prop} (r0 : ∀ r : Int, P r → o = ((0, r), M)) {z : Int} (h : j_X1_posting_31 M = some z) (hz : P z) : Sem g d YX1_posting 31 [(9, 0), (9, 0), (9, 0), (9, 0), (9, 0)] [] M o := by
  delta j_X1_posting_31 at h
  refine S_iconst dX1_posting_31 rfl ?_
  obtain rfl := r0 _ (some_P (P := fun r => P r) h hz)
  exact P_ret dX1_posting_32 rfl (Or.inl rfl)
theorem s_X1_posting_0 {g : GG} {d : Nat} (hD : 2 ≤ d) {x0 x1 x2 x3 : Int} {M : MM} {o : AV × MM} {P : (Int) → Prop} (r0 : ∀ r : Int, P r → o = ((0, r), M)) {z : Int} (h : f_X1_posting x0 x1 x2 x3 M = some z) (hz : P z) : Sem g d YX1_posting 0 [(1, x0), (0, x1), (0, x2), (0, x3), (9, 0)] [] M o := by
  delta f_X1_posting at h
  refine S_aload_n (i := 0) dX1_posting_0 rfl rfl ?_
  refine S_iload_n (i := 1) dX1_posting_1 rfl rfl ?_
  refine P_invVp 0 [(0, x1)] [] CVX1_has MLX1_113 dX1_posting_2 rfl rfl rfl rfl rfl (by omega) h (fun r h => F_X1_has (by omega) h) (fun v1 h => ?_)
  refine P_if_eq (tgt := 31) dX1_posting_5 rfl h (fun h => ?_) (fun h => ?_)
  · refine S_weak (ls' := [(9, 0), (9, 0), (9, 0), (9, 0), (9, 0)]) ⟨Or.inl rfl, ⟨Or.inl rfl, ⟨Or.inl rfl, ⟨Or.inl rfl, ⟨Or.inl rfl, trivial⟩⟩⟩⟩⟩ ?_
    exact s_X1_posting_31 hD r0 h hz
  · refine S_iload_n (i := 2) dX1_posting_8 rfl rfl ?_
    refine P_if_lt (tgt := 31) dX1_posting_9 rfl h (fun h => ?_) (fun h => ?_)
    · refine S_weak (ls' := [(9, 0), (9, 0), (9, 0), (9, 0), (9, 0)]) ⟨Or.inl rfl, ⟨Or.inl rfl, ⟨Or.inl rfl, ⟨Or.inl rfl, ⟨Or.inl rfl, trivial⟩⟩⟩⟩⟩ ?_
      exact s_X1_posting_31 hD r0 h hz
    · refine S_iload_n (i := 2) dX1_posting_12 rfl rfl ?_
      refine S_aload_n (i := 0) dX1_posting_13 rfl rfl ?_
      refine P_gfr FLX1_70 rfl dX1_posting_14 h (fun v2 h => ?_)
      refine P_gfr FLX1_114 rfl dX1_posting_17 h (fun v3 h => ?_)
      refine S_iload_n (i := 1) dX1_posting_20 rfl rfl ?_
      refine P_lar (t := 7) ⟨by decide, by decide⟩ dX1_posting_21 h (fun v4 h => ?_)
      refine P_gfr FLX1_291 rfl dX1_posting_22 h (fun v5 h => ?_)
      refine P_gfi FLX1_368 rfl dX1_posting_25 h (fun v6 h => ?_)
      refine P_icmp_lt (tgt := 33) dX1_posting_28 rfl h (fun h => ?_) (fun h => ?_)
      · refine S_aload_n (i := 0) dX1_posting_33 rfl rfl ?_
        refine P_gfr FLX1_70 rfl dX1_posting_34 h (fun v7 h => ?_)
        refine P_gfr FLX1_114 rfl dX1_posting_37 h (fun v8 h => ?_)
        refine S_iload_n (i := 1) dX1_posting_40 rfl rfl ?_
        refine P_lar (t := 7) ⟨by decide, by decide⟩ dX1_posting_41 h (fun v9 h => ?_)
        refine P_gfr FLX1_291 rfl dX1_posting_42 h (fun v10 h => ?_)
        refine P_gfr FLX1_392 rfl dX1_posting_45 h (fun v11 h => ?_)
        refine S_iload_n (i := 2) dX1_posting_48 rfl rfl ?_
        refine P_lar (t := 9) ⟨by decide, by decide⟩ dX1_posting_49 h (fun v12 h => ?_)
        refine S_astore dX1_posting_50 (Nat.le_of_ble_eq_true rfl) rfl rfl ?_
        change Sem g d YX1_posting 52 [(1, x0), (0, x1), (0, x2), (0, x3), (1, v12)] [] M o
        refine S_iload_n (i := 3) dX1_posting_52 rfl rfl ?_
        refine P_swt [84, 90, 96, 102] 108 dX1_posting_53 rfl rfl rfl rfl h ?_ (fun h => ?_)
        · intro i X hX h t ht
          rcases i with _ | i
          · have e1 := Option.some.inj hX
            have e2 := Option.some.inj ht
            subst e1
            subst e2
            refine S_aload dX1_posting_84 rfl ?_
            refine P_gfi FLX1_396 rfl dX1_posting_86 h (fun v13 h => ?_)
            obtain rfl := r0 _ (some_P (P := fun r => P r) h hz)
            exact P_ret dX1_posting_89 rfl (Or.inl rfl)
          rcases i with _ | i
          · have e1 := Option.some.inj hX
            have e2 := Option.some.inj ht
            subst e1
            subst e2
            refine S_aload dX1_posting_90 rfl ?_
            refine P_gfi FLX1_401 rfl dX1_posting_92 h (fun v14 h => ?_)
            obtain rfl := r0 _ (some_P (P := fun r => P r) h hz)
            exact P_ret dX1_posting_95 rfl (Or.inl rfl)
          rcases i with _ | i
          · have e1 := Option.some.inj hX
            have e2 := Option.some.inj ht
            subst e1
            subst e2
            refine S_aload dX1_posting_96 rfl ?_
            refine P_gfi FLX1_404 rfl dX1_posting_98 h (fun v15 h => ?_)
            obtain rfl := r0 _ (some_P (P := fun r => P r) h hz)
            exact P_ret dX1_posting_101 rfl (Or.inl rfl)
          rcases i with _ | i
          · have e1 := Option.some.inj hX
            have e2 := Option.some.inj ht
            subst e1
            subst e2
            refine S_aload dX1_posting_102 rfl ?_
            refine P_gfi FLX1_407 rfl dX1_posting_104 h (fun v16 h => ?_)
            obtain rfl := r0 _ (some_P (P := fun r => P r) h hz)
            exact P_ret dX1_posting_107 rfl (Or.inl rfl)
          cases hX
        · refine S_iload_n (i := 3) dX1_posting_108 rfl rfl ?_
          refine S_iconst dX1_posting_109 rfl ?_
          refine P_icmp_lt (tgt := 134) dX1_posting_110 rfl h (fun h => ?_) (fun h => ?_)
          · refine S_weak (ls' := [(9, 0), (9, 0), (9, 0), (9, 0), (9, 0)]) ⟨Or.inl rfl, ⟨Or.inl rfl, ⟨Or.inl rfl, ⟨Or.inl rfl, ⟨Or.inl rfl, trivial⟩⟩⟩⟩⟩ ?_
            exact s_X1_posting_134 hD r0 h hz
          · refine S_iload_n (i := 3) dX1_posting_113 rfl rfl ?_
            refine S_bipush (z := 9) dX1_posting_114 rfl ?_
            refine P_icmp_ge (tgt := 134) dX1_posting_116 rfl h (fun h => ?_) (fun h => ?_)
            · refine S_weak (ls' := [(9, 0), (9, 0), (9, 0), (9, 0), (9, 0)]) ⟨Or.inl rfl, ⟨Or.inl rfl, ⟨Or.inl rfl, ⟨Or.inl rfl, ⟨Or.inl rfl, trivial⟩⟩⟩⟩⟩ ?_
              exact s_X1_posting_134 hD r0 h hz
            · refine S_aload dX1_posting_119 rfl ?_
              refine P_gfr FLX1_409 rfl dX1_posting_121 h (fun v17 h => ?_)
              refine P_gfr FLX1_105 rfl dX1_posting_124 h (fun v18 h => ?_)
              refine S_iload_n (i := 3) dX1_posting_127 rfl rfl ?_
              refine S_iconst dX1_posting_128 rfl ?_
              refine S_isub dX1_posting_129 ?_
              refine P_lai dX1_posting_130 h (fun v19 h => ?_)
              refine S_goto (tgt := 135) dX1_posting_131 rfl ?_
              refine S_weak (ls' := [(9, 0), (9, 0), (9, 0), (9, 0), (9, 0)]) ⟨Or.inl rfl, ⟨Or.inl rfl, ⟨Or.inl rfl, ⟨Or.inl rfl, ⟨Or.inl rfl, trivial⟩⟩⟩⟩⟩ ?_
              exact s_X1_posting_135 hD r0 h hz
      · refine S_weak (ls' := [(9, 0), (9, 0), (9, 0), (9, 0), (9, 0)]) ⟨Or.inl rfl, ⟨Or.inl rfl, ⟨Or.inl rfl, ⟨Or.inl rfl, ⟨Or.inl rfl, trivial⟩⟩⟩⟩⟩ ?_
        exact s_X1_posting_31 hD r0 h hz
theorem F_X1_posting {g : GG} {d : Nat} (hD : 2 ≤ d) {x0 x1 x2 x3 : Int} {M : MM} {r : Int} (h : f_X1_posting x0 x1 x2 x3 M = some r) : Sem g d YX1_posting 0 (ini YX1_posting [(1, x0), (0, x1), (0, x2), (0, x3)]) [] M ((0, r), M) := by
  change Sem g d YX1_posting 0 [(1, x0), (0, x1), (0, x2), (0, x3), (9, 0)] [] M ((0, r), M)
  exact s_X1_posting_0 hD (P := fun x => x = r) (fun q e => by rw [e]) h rfl
/-! PeerSearch$Publishing.<init>()V -/
theorem dX30_init_0 : decode cX30_init 0 = .ok (.aload_n 0, 1) := by decide +kernel
theorem dX30_init_1 : decode cX30_init 1 = .ok (.invokespecial 3, 3) := by decide +kernel
theorem dX30_init_4 : decode cX30_init 4 = .ok (.aload_n 0, 1) := by decide +kernel
theorem dX30_init_5 : decode cX30_init 5 = .ok (.bipush 64, 2) := by decide +kernel
theorem dX30_init_7 : decode cX30_init 7 = .ok (.anewarray 9, 3) := by decide +kernel
theorem dX30_init_10 : decode cX30_init 10 = .ok (.putfield 11, 3) := by decide +kernel
theorem dX30_init_13 : decode cX30_init 13 = .ok (.return_, 1) := by decide +kernel
def f_X30_init (x0 : Int) (M : MM) : Option (MM) :=
  nn x0 <| (f_X12_init x0 M).bind fun M1 =>
  (nar 618 64 M1).bind fun r1 =>
  (pfr 30 0 x0 r1.1 r1.2).bind fun M2 =>
  some M2
theorem s_X30_init_0 {g : GG} {d : Nat} (hD : 2 ≤ d) {x0 : Int} {M : MM} {o : AV × MM} {P : (MM) → Prop} (r0 : ∀ r : MM, P r → o = ((9, 0), r)) {z : MM} (h : f_X30_init x0 M = some z) (hz : P z) : Sem g d YX30_init 0 [(1, x0)] [] M o := by
  delta f_X30_init at h
  refine S_aload_n (i := 0) dX30_init_0 rfl rfl ?_
  refine P_invI' [] [] CIX12_init MLX30_3 dX30_init_1 rfl rfl rfl rfl (by omega) h (fun r h => F_X12_init (by omega) h) (fun M1 h => ?_)
  refine S_aload_n (i := 0) dX30_init_4 rfl rfl ?_
  refine S_bipush (z := 64) dX30_init_5 rfl ?_
  refine P_naa (k := 618) (by decide) ⟨by decide, by decide⟩ q1763 dX30_init_7 h (fun r1 h => ?_)
  refine P_pfr FLX30_11 FPX30_11 (Or.inr ⟨_, rfl⟩) rfl dX30_init_10 h (fun M2 h => ?_)
  obtain rfl := r0 _ (some_P (P := fun r => P r) h hz)
  exact S_return dX30_init_13 rfl
theorem F_X30_init {g : GG} {d : Nat} (hD : 2 ≤ d) {x0 : Int} {M : MM} {r : MM} (h : f_X30_init x0 M = some r) : Sem g d YX30_init 0 (ini YX30_init [(1, x0)]) [] M ((9, 0), r) := by
  change Sem g d YX30_init 0 [(1, x0)] [] M ((9, 0), r)
  exact s_X30_init_0 hD (P := fun x => x = r) (fun q e => by rw [e]) h rfl
/-! PeerSearch$Work.publishing()LPeerSearch$Publishing; -/
theorem dX11_publishing_0 : decode cX11_publishing 0 = .ok (.aload_n 0, 1) := by decide +kernel
theorem dX11_publishing_1 : decode cX11_publishing 1 = .ok (.getfield 51, 3) := by decide +kernel
theorem dX11_publishing_4 : decode cX11_publishing 4 = .ok (.ifnonnull 14, 3) := by decide +kernel
theorem dX11_publishing_7 : decode cX11_publishing 7 = .ok (.aload_n 0, 1) := by decide +kernel
theorem dX11_publishing_8 : decode cX11_publishing 8 = .ok (.new 55, 3) := by decide +kernel
theorem dX11_publishing_11 : decode cX11_publishing 11 = .ok (.dup, 1) := by decide +kernel
theorem dX11_publishing_12 : decode cX11_publishing 12 = .ok (.invokespecial 57, 3) := by decide +kernel
theorem dX11_publishing_15 : decode cX11_publishing 15 = .ok (.putfield 51, 3) := by decide +kernel
theorem dX11_publishing_18 : decode cX11_publishing 18 = .ok (.aload_n 0, 1) := by decide +kernel
theorem dX11_publishing_19 : decode cX11_publishing 19 = .ok (.getfield 51, 3) := by decide +kernel
theorem dX11_publishing_22 : decode cX11_publishing 22 = .ok (.areturn, 1) := by decide +kernel
def j_X11_publishing_18 (x0 : Int) (M : MM) : Option (Int × MM) :=
  (gfr 11 10 x0 M).bind fun v1 =>
  some (v1, M)
def f_X11_publishing (x0 : Int) (M : MM) : Option (Int × MM) :=
  (gfr 11 10 x0 M).bind fun v1 =>
  if v1 = -1 then
    (nob 30 7 47 M).bind fun r1 =>
    nn r1.1 <| (f_X30_init r1.1 r1.2).bind fun M1 =>
    (pfr 11 10 x0 r1.1 M1).bind fun M2 =>
    j_X11_publishing_18 x0 M2
  else
    j_X11_publishing_18 x0 M
theorem s_X11_publishing_18 {g : GG} {d : Nat} (hD : 3 ≤ d) {x0 : Int} {M : MM} {o : AV × MM} {P : (Int × MM) → Prop} (r0 : ∀ r : Int × MM, P r → o = ((1, r.1), r.2)) {z : Int × MM} (h : j_X11_publishing_18 x0 M = some z) (hz : P z) : Sem g d YX11_publishing 18 [(1, x0)] [] M o := by
  delta j_X11_publishing_18 at h
  refine S_aload_n (i := 0) dX11_publishing_18 rfl rfl ?_
  refine P_gfr FLX11_51 rfl dX11_publishing_19 h (fun v1 h => ?_)
  obtain rfl := r0 _ (some_P (P := fun r => P r) h hz)
  exact S_areturn dX11_publishing_22 ⟨_, rfl, Or.inl ⟨_, rfl⟩⟩
theorem s_X11_publishing_0 {g : GG} {d : Nat} (hD : 3 ≤ d) {x0 : Int} {M : MM} {o : AV × MM} {P : (Int × MM) → Prop} (r0 : ∀ r : Int × MM, P r → o = ((1, r.1), r.2)) {z : Int × MM} (h : f_X11_publishing x0 M = some z) (hz : P z) : Sem g d YX11_publishing 0 [(1, x0)] [] M o := by
  delta f_X11_publishing at h
  refine S_aload_n (i := 0) dX11_publishing_0 rfl rfl ?_
  refine P_gfr FLX11_51 rfl dX11_publishing_1 h (fun v1 h => ?_)
  refine P_ifnonnull (tgt := 18) dX11_publishing_4 rfl h (fun h => ?_) (fun h => ?_)
  · exact s_X11_publishing_18 hD r0 h hz
  · refine S_aload_n (i := 0) dX11_publishing_7 rfl rfl ?_
    refine P_nob NLX11_55 rfl dX11_publishing_8 h (fun r1 h => ?_)
    refine S_dup dX11_publishing_11 (Nat.le_of_ble_eq_true rfl) ?_
    refine P_invI' [] [(1, r1.1), (1, x0)] CIX30_init MLX11_57 dX11_publishing_12 rfl rfl rfl rfl (by omega) h (fun r h => F_X30_init (by omega) h) (fun M1 h => ?_)
    refine P_pfr FLX11_51 FPX11_51 (Or.inl ⟨_, rfl⟩) rfl dX11_publishing_15 h (fun M2 h => ?_)
    exact s_X11_publishing_18 hD r0 h hz
theorem F_X11_publishing {g : GG} {d : Nat} (hD : 3 ≤ d) {x0 : Int} {M : MM} {r : Int × MM} (h : f_X11_publishing x0 M = some r) : Sem g d YX11_publishing 0 (ini YX11_publishing [(1, x0)]) [] M ((1, r.1), r.2) := by
  change Sem g d YX11_publishing 0 [(1, x0)] [] M ((1, r.1), r.2)
  exact s_X11_publishing_0 hD (P := fun x => x = r) (fun q e => by rw [e]) h rfl
/-! PeerSearch.publish(I)I -/
theorem dX1_publish_0 : decode cX1_publish 0 = .ok (.aload_n 0, 1) := by decide +kernel
theorem dX1_publish_1 : decode cX1_publish 1 = .ok (.invokevirtual 167, 3) := by decide +kernel
theorem dX1_publish_4 : decode cX1_publish 4 = .ok (.astore_n 2, 1) := by decide +kernel
theorem dX1_publish_5 : decode cX1_publish 5 = .ok (.aload_n 0, 1) := by decide +kernel
theorem dX1_publish_6 : decode cX1_publish 6 = .ok (.iload_n 1, 1) := by decide +kernel
theorem dX1_publish_7 : decode cX1_publish 7 = .ok (.invokevirtual 149, 3) := by decide +kernel
theorem dX1_publish_10 : decode cX1_publish 10 = .ok (.ifCond .eq 21, 3) := by decide +kernel
theorem dX1_publish_13 : decode cX1_publish 13 = .ok (.aload_n 2, 1) := by decide +kernel
theorem dX1_publish_14 : decode cX1_publish 14 = .ok (.ifnull 17, 3) := by decide +kernel
theorem dX1_publish_17 : decode cX1_publish 17 = .ok (.aload_n 0, 1) := by decide +kernel
theorem dX1_publish_18 : decode cX1_publish 18 = .ok (.aload_n 2, 1) := by decide +kernel
theorem dX1_publish_19 : decode cX1_publish 19 = .ok (.iload_n 1, 1) := by decide +kernel
theorem dX1_publish_20 : decode cX1_publish 20 = .ok (.iconst 2, 1) := by decide +kernel
theorem dX1_publish_21 : decode cX1_publish 21 = .ok (.aload_n 2, 1) := by decide +kernel
theorem dX1_publish_22 : decode cX1_publish 22 = .ok (.invokevirtual 242, 3) := by decide +kernel
theorem dX1_publish_25 : decode cX1_publish 25 = .ok (.invokevirtual 185, 3) := by decide +kernel
theorem dX1_publish_28 : decode cX1_publish 28 = .ok (.goto 4, 3) := by decide +kernel
theorem dX1_publish_31 : decode cX1_publish 31 = .ok (.iconst (-1), 1) := by decide +kernel
theorem dX1_publish_32 : decode cX1_publish 32 = .ok (.ireturn, 1) := by decide +kernel
def j_X1_publish_32 (y0 : Int) (M : MM) : Option (Int × MM) :=
  some (y0, M)
def j_X1_publish_31 (M : MM) : Option (Int × MM) :=
  j_X1_publish_32 (-1) M
def f_X1_publish (x0 x1 : Int) (M : MM) : Option (Int × MM) :=
  ck 1 x0 M <| (f_X1_free x0 M).bind fun v1 =>
  ck 1 x0 M <| (f_X1_isLive x0 x1 M).bind fun v2 =>
  if w32 v2 = 0 then
    j_X1_publish_31 M
  else
    if v1 = -1 then
      j_X1_publish_31 M
    else
      ck 11 v1 M <| (f_X11_publishing v1 M).bind fun r1 =>
      ck 1 x0 r1.2 <| (f_X1_begin x0 v1 x1 2 r1.1 r1.2).bind fun r2 =>
      j_X1_publish_32 r2.1 r2.2
theorem s_X1_publish_32 {g : GG} {d : Nat} (hD : 215 ≤ d) {y0 : Int} {M : MM} {o : AV × MM} {P : (Int × MM) → Prop} (r0 : ∀ r : Int × MM, P r → o = ((0, r.1), r.2)) {z : Int × MM} (h : j_X1_publish_32 y0 M = some z) (hz : P z) : Sem g d YX1_publish 32 [(9, 0), (9, 0), (9, 0)] [(0, y0)] M o := by
  delta j_X1_publish_32 at h
  obtain rfl := r0 _ (some_P (P := fun r => P r) h hz)
  exact P_ret dX1_publish_32 rfl (Or.inl rfl)
theorem s_X1_publish_31 {g : GG} {d : Nat} (hD : 215 ≤ d) {M : MM} {o : AV × MM} {P : (Int × MM) → Prop} (r0 : ∀ r : Int × MM, P r → o = ((0, r.1), r.2)) {z : Int × MM} (h : j_X1_publish_31 M = some z) (hz : P z) : Sem g d YX1_publish 31 [(9, 0), (9, 0), (9, 0)] [] M o := by
  delta j_X1_publish_31 at h
  refine S_iconst dX1_publish_31 rfl ?_
  exact s_X1_publish_32 hD r0 h hz
theorem s_X1_publish_0 {g : GG} {d : Nat} (hD : 215 ≤ d) {x0 x1 : Int} {M : MM} {o : AV × MM} {P : (Int × MM) → Prop} (r0 : ∀ r : Int × MM, P r → o = ((0, r.1), r.2)) {z : Int × MM} (h : f_X1_publish x0 x1 M = some z) (hz : P z) : Sem g d YX1_publish 0 [(1, x0), (0, x1), (9, 0)] [] M o := by
  delta f_X1_publish at h
  refine S_aload_n (i := 0) dX1_publish_0 rfl rfl ?_
  refine P_invVp 1 [] [] CVX1_free MLX1_167 dX1_publish_1 rfl rfl rfl rfl rfl (by omega) h (fun r h => F_X1_free (by omega) h) (fun v1 h => ?_)
  refine S_astore_n (i := 2) dX1_publish_4 rfl (Nat.le_of_ble_eq_true rfl) rfl rfl ?_
  change Sem g d YX1_publish 5 [(1, x0), (0, x1), (1, v1)] [] M o
  refine S_aload_n (i := 0) dX1_publish_5 rfl rfl ?_
  refine S_iload_n (i := 1) dX1_publish_6 rfl rfl ?_
  refine P_invVp 0 [(0, x1)] [] CVX1_isLive MLX1_149 dX1_publish_7 rfl rfl rfl rfl rfl (by omega) h (fun r h => F_X1_isLive (by omega) h) (fun v2 h => ?_)
  refine P_if_eq (tgt := 31) dX1_publish_10 rfl h (fun h => ?_) (fun h => ?_)
  · refine S_weak (ls' := [(9, 0), (9, 0), (9, 0)]) ⟨Or.inl rfl, ⟨Or.inl rfl, ⟨Or.inl rfl, trivial⟩⟩⟩ ?_
    exact s_X1_publish_31 hD r0 h hz
  · refine S_aload_n (i := 2) dX1_publish_13 rfl rfl ?_
    refine P_ifnull (tgt := 31) dX1_publish_14 rfl h (fun h => ?_) (fun h => ?_)
    · refine S_weak (ls' := [(9, 0), (9, 0), (9, 0)]) ⟨Or.inl rfl, ⟨Or.inl rfl, ⟨Or.inl rfl, trivial⟩⟩⟩ ?_
      exact s_X1_publish_31 hD r0 h hz
    · refine S_aload_n (i := 0) dX1_publish_17 rfl rfl ?_
      refine S_aload_n (i := 2) dX1_publish_18 rfl rfl ?_
      refine S_iload_n (i := 1) dX1_publish_19 rfl rfl ?_
      refine S_iconst dX1_publish_20 rfl ?_
      refine S_aload_n (i := 2) dX1_publish_21 rfl rfl ?_
      refine P_invVe 1 [] [(0, 2), (0, x1), (1, v1), (1, x0)] CVX11_publishing MLX1_242 dX1_publish_22 rfl rfl rfl rfl rfl (by omega) h (fun r h => F_X11_publishing (by omega) h) (fun r1 h => ?_)
      refine P_invVe 0 [(1, v1), (0, x1), (0, 2), (1, r1.1)] [] CVX1_begin MLX1_185 dX1_publish_25 rfl rfl rfl rfl rfl (by omega) h (fun r h => F_X1_begin (by omega) h) (fun r2 h => ?_)
      refine S_goto (tgt := 32) dX1_publish_28 rfl ?_
      refine S_weak (ls' := [(9, 0), (9, 0), (9, 0)]) ⟨Or.inl rfl, ⟨Or.inl rfl, ⟨Or.inl rfl, trivial⟩⟩⟩ ?_
      exact s_X1_publish_32 hD r0 h hz
theorem F_X1_publish {g : GG} {d : Nat} (hD : 215 ≤ d) {x0 x1 : Int} {M : MM} {r : Int × MM} (h : f_X1_publish x0 x1 M = some r) : Sem g d YX1_publish 0 (ini YX1_publish [(1, x0), (0, x1)]) [] M ((0, r.1), r.2) := by
  change Sem g d YX1_publish 0 [(1, x0), (0, x1), (9, 0)] [] M ((0, r.1), r.2)
  exact s_X1_publish_0 hD (P := fun x => x = r) (fun q e => by rw [e]) h rfl
/-! PeerSearch.areAsked()Z -/
theorem dX1_areAsked_0 : decode cX1_areAsked 0 = .ok (.aload_n 0, 1) := by decide +kernel
theorem dX1_areAsked_1 : decode cX1_areAsked 1 = .ok (.getfield 34, 3) := by decide +kernel
theorem dX1_areAsked_4 : decode cX1_areAsked 4 = .ok (.getfield 253, 3) := by decide +kernel
theorem dX1_areAsked_7 : decode cX1_areAsked 7 = .ok (.iconst 1, 1) := by decide +kernel
theorem dX1_areAsked_8 : decode cX1_areAsked 8 = .ok (.if_icmp .lt 18, 3) := by decide +kernel
theorem dX1_areAsked_11 : decode cX1_areAsked 11 = .ok (.aload_n 0, 1) := by decide +kernel
theorem dX1_areAsked_12 : decode cX1_areAsked 12 = .ok (.getfield 34, 3) := by decide +kernel
theorem dX1_areAsked_15 : decode cX1_areAsked 15 = .ok (.getfield 253, 3) := by decide +kernel
theorem dX1_areAsked_18 : decode cX1_areAsked 18 = .ok (.iconst 3, 1) := by decide +kernel
theorem dX1_areAsked_19 : decode cX1_areAsked 19 = .ok (.if_icmp .gt 7, 3) := by decide +kernel
theorem dX1_areAsked_22 : decode cX1_areAsked 22 = .ok (.iconst 1, 1) := by decide +kernel
theorem dX1_areAsked_23 : decode cX1_areAsked 23 = .ok (.goto 4, 3) := by decide +kernel
theorem dX1_areAsked_26 : decode cX1_areAsked 26 = .ok (.iconst 0, 1) := by decide +kernel
theorem dX1_areAsked_27 : decode cX1_areAsked 27 = .ok (.ireturn, 1) := by decide +kernel
def j_X1_areAsked_27 (y0 : Int) (M : MM) : Option (Int) :=
  bz y0 (some y0)
def j_X1_areAsked_26 (M : MM) : Option (Int) :=
  j_X1_areAsked_27 0 M
def f_X1_areAsked (x0 : Int) (M : MM) : Option (Int) :=
  (gfr 1 9 x0 M).bind fun v1 =>
  (gfi 2 3 v1 M).bind fun v2 =>
  if w32 v2 < w32 1 then
    j_X1_areAsked_26 M
  else
    (gfr 1 9 x0 M).bind fun v3 =>
    (gfi 2 3 v3 M).bind fun v4 =>
    if w32 3 < w32 v4 then
      j_X1_areAsked_26 M
    else
      j_X1_areAsked_27 1 M
theorem s_X1_areAsked_27 {g : GG} {d : Nat} (hD : 0 ≤ d) {y0 : Int} {M : MM} {o : AV × MM} {P : (Int) → Prop} (r0 : ∀ r : Int, P r → o = ((0, r), M)) {z : Int} (h : j_X1_areAsked_27 y0 M = some z) (hz : P z) : Sem g d YX1_areAsked 27 [(9, 0)] [(0, y0)] M o := by
  delta j_X1_areAsked_27 at h
  obtain ⟨hb, h⟩ := bz_some h
  obtain rfl := r0 _ (some_P (P := fun r => P r) h hz)
  exact P_ret dX1_areAsked_27 rfl (Or.inr ⟨rfl, hb⟩)
theorem s_X1_areAsked_26 {g : GG} {d : Nat} (hD : 0 ≤ d) {M : MM} {o : AV × MM} {P : (Int) → Prop} (r0 : ∀ r : Int, P r → o = ((0, r), M)) {z : Int} (h : j_X1_areAsked_26 M = some z) (hz : P z) : Sem g d YX1_areAsked 26 [(9, 0)] [] M o := by
  delta j_X1_areAsked_26 at h
  refine S_iconst dX1_areAsked_26 rfl ?_
  exact s_X1_areAsked_27 hD r0 h hz
theorem s_X1_areAsked_0 {g : GG} {d : Nat} (hD : 0 ≤ d) {x0 : Int} {M : MM} {o : AV × MM} {P : (Int) → Prop} (r0 : ∀ r : Int, P r → o = ((0, r), M)) {z : Int} (h : f_X1_areAsked x0 M = some z) (hz : P z) : Sem g d YX1_areAsked 0 [(1, x0)] [] M o := by
  delta f_X1_areAsked at h
  refine S_aload_n (i := 0) dX1_areAsked_0 rfl rfl ?_
  refine P_gfr FLX1_34 rfl dX1_areAsked_1 h (fun v1 h => ?_)
  refine P_gfi FLX1_253 rfl dX1_areAsked_4 h (fun v2 h => ?_)
  refine S_iconst dX1_areAsked_7 rfl ?_
  refine P_icmp_lt (tgt := 26) dX1_areAsked_8 rfl h (fun h => ?_) (fun h => ?_)
  · refine S_weak (ls' := [(9, 0)]) ⟨Or.inl rfl, trivial⟩ ?_
    exact s_X1_areAsked_26 hD r0 h hz
  · refine S_aload_n (i := 0) dX1_areAsked_11 rfl rfl ?_
    refine P_gfr FLX1_34 rfl dX1_areAsked_12 h (fun v3 h => ?_)
    refine P_gfi FLX1_253 rfl dX1_areAsked_15 h (fun v4 h => ?_)
    refine S_iconst dX1_areAsked_18 rfl ?_
    refine P_icmp_gt (tgt := 26) dX1_areAsked_19 rfl h (fun h => ?_) (fun h => ?_)
    · refine S_weak (ls' := [(9, 0)]) ⟨Or.inl rfl, trivial⟩ ?_
      exact s_X1_areAsked_26 hD r0 h hz
    · refine S_iconst dX1_areAsked_22 rfl ?_
      refine S_goto (tgt := 27) dX1_areAsked_23 rfl ?_
      refine S_weak (ls' := [(9, 0)]) ⟨Or.inl rfl, trivial⟩ ?_
      exact s_X1_areAsked_27 hD r0 h hz
theorem F_X1_areAsked {g : GG} {d : Nat} (hD : 0 ≤ d) {x0 : Int} {M : MM} {r : Int} (h : f_X1_areAsked x0 M = some r) : Sem g d YX1_areAsked 0 (ini YX1_areAsked [(1, x0)]) [] M ((0, r), M) := by
  change Sem g d YX1_areAsked 0 [(1, x0)] [] M ((0, r), M)
  exact s_X1_areAsked_0 hD (P := fun x => x = r) (fun q e => by rw [e]) h rfl
/-! PeerSearch$Asking.add(LPeerSearch$Key;)V -/
theorem dX31_add_0 : decode cX31_add 0 = .ok (.aload_n 0, 1) := by decide +kernel
theorem dX31_add_1 : decode cX31_add 1 = .ok (.getfield 11, 3) := by decide +kernel
theorem dX31_add_4 : decode cX31_add 4 = .ok (.aload_n 0, 1) := by decide +kernel
theorem dX31_add_5 : decode cX31_add 5 = .ok (.getfield 68, 3) := by decide +kernel
theorem dX31_add_8 : decode cX31_add 8 = .ok (.aaload, 1) := by decide +kernel
theorem dX31_add_9 : decode cX31_add 9 = .ok (.aload_n 1, 1) := by decide +kernel
theorem dX31_add_10 : decode cX31_add 10 = .ok (.invokevirtual 72, 3) := by decide +kernel
theorem dX31_add_13 : decode cX31_add 13 = .ok (.aload_n 0, 1) := by decide +kernel
theorem dX31_add_14 : decode cX31_add 14 = .ok (.dup, 1) := by decide +kernel
theorem dX31_add_15 : decode cX31_add 15 = .ok (.getfield 68, 3) := by decide +kernel
theorem dX31_add_18 : decode cX31_add 18 = .ok (.iconst 1, 1) := by decide +kernel
theorem dX31_add_19 : decode cX31_add 19 = .ok (.iadd, 1) := by decide +kernel
theorem dX31_add_20 : decode cX31_add 20 = .ok (.putfield 68, 3) := by decide +kernel
theorem dX31_add_23 : decode cX31_add 23 = .ok (.return_, 1) := by decide +kernel
def f_X31_add (x0 x1 : Int) (M : MM) : Option (MM) :=
  (gfr 31 0 x0 M).bind fun v1 =>
  (gfi 31 5 x0 M).bind fun v2 =>
  (lar 13 v1 v2 M).bind fun v3 =>
  ck 3 v3 M <| (f_X3_set v3 x1 M).bind fun M1 =>
  (gfi 31 5 x0 M1).bind fun v4 =>
  (pfi 31 5 x0 (v4 + 1) M1).bind fun M2 =>
  some M2
theorem s_X31_add_0 {g : GG} {d : Nat} (hD : 1 ≤ d) {x0 x1 : Int} {M : MM} {o : AV × MM} {P : (MM) → Prop} (r0 : ∀ r : MM, P r → o = ((9, 0), r)) {z : MM} (h : f_X31_add x0 x1 M = some z) (hz : P z) : Sem g d YX31_add 0 [(1, x0), (1, x1)] [] M o := by
  delta f_X31_add at h
  refine S_aload_n (i := 0) dX31_add_0 rfl rfl ?_
  refine P_gfr FLX31_11 rfl dX31_add_1 h (fun v1 h => ?_)
  refine S_aload_n (i := 0) dX31_add_4 rfl rfl ?_
  refine P_gfi FLX31_68 rfl dX31_add_5 h (fun v2 h => ?_)
  refine P_lar (t := 13) ⟨by decide, by decide⟩ dX31_add_8 h (fun v3 h => ?_)
  refine S_aload_n (i := 1) dX31_add_9 rfl rfl ?_
  refine P_invVm' [(1, x1)] [] CVX3_set MLX31_72 dX31_add_10 rfl rfl rfl rfl (by omega) h (fun r h => F_X3_set (by omega) h) (fun M1 h => ?_)
  refine S_aload_n (i := 0) dX31_add_13 rfl rfl ?_
  refine S_dup dX31_add_14 (Nat.le_of_ble_eq_true rfl) ?_
  refine P_gfi FLX31_68 rfl dX31_add_15 h (fun v4 h => ?_)
  refine S_iconst dX31_add_18 rfl ?_
  refine S_iadd dX31_add_19 ?_
  refine P_pfi FLX31_68 FPX31_68 rfl dX31_add_20 h (fun M2 h => ?_)
  obtain rfl := r0 _ (some_P (P := fun r => P r) h hz)
  exact S_return dX31_add_23 rfl
theorem F_X31_add {g : GG} {d : Nat} (hD : 1 ≤ d) {x0 x1 : Int} {M : MM} {r : MM} (h : f_X31_add x0 x1 M = some r) : Sem g d YX31_add 0 (ini YX31_add [(1, x0), (1, x1)]) [] M ((9, 0), r) := by
  change Sem g d YX31_add 0 [(1, x0), (1, x1)] [] M ((9, 0), r)
  exact s_X31_add_0 hD (P := fun x => x = r) (fun q e => by rw [e]) h rfl
/-! PeerSearch$Asking.clear()V -/
theorem dX31_clear_0 : decode cX31_clear 0 = .ok (.aload_n 0, 1) := by decide +kernel
theorem dX31_clear_1 : decode cX31_clear 1 = .ok (.iconst 0, 1) := by decide +kernel
theorem dX31_clear_2 : decode cX31_clear 2 = .ok (.putfield 68, 3) := by decide +kernel
theorem dX31_clear_5 : decode cX31_clear 5 = .ok (.return_, 1) := by decide +kernel
def f_X31_clear (x0 : Int) (M : MM) : Option (MM) :=
  (pfi 31 5 x0 0 M).bind fun M1 =>
  some M1
theorem s_X31_clear_0 {g : GG} {d : Nat} (hD : 0 ≤ d) {x0 : Int} {M : MM} {o : AV × MM} {P : (MM) → Prop} (r0 : ∀ r : MM, P r → o = ((9, 0), r)) {z : MM} (h : f_X31_clear x0 M = some z) (hz : P z) : Sem g d YX31_clear 0 [(1, x0)] [] M o := by
  delta f_X31_clear at h
  refine S_aload_n (i := 0) dX31_clear_0 rfl rfl ?_
  refine S_iconst dX31_clear_1 rfl ?_
  refine P_pfi FLX31_68 FPX31_68 rfl dX31_clear_2 h (fun M1 h => ?_)
  obtain rfl := r0 _ (some_P (P := fun r => P r) h hz)
  exact S_return dX31_clear_5 rfl
theorem F_X31_clear {g : GG} {d : Nat} (hD : 0 ≤ d) {x0 : Int} {M : MM} {r : MM} (h : f_X31_clear x0 M = some r) : Sem g d YX31_clear 0 (ini YX31_clear [(1, x0)]) [] M ((9, 0), r) := by
  change Sem g d YX31_clear 0 [(1, x0)] [] M ((9, 0), r)
  exact s_X31_clear_0 hD (P := fun x => x = r) (fun q e => by rw [e]) h rfl
/-! PeerSearch$Asking.<init>(LPeerSearch$Board;)V -/
theorem dX31_init_0 : decode cX31_init 0 = .ok (.aload_n 0, 1) := by decide +kernel
theorem dX31_init_1 : decode cX31_init 1 = .ok (.invokespecial 3, 3) := by decide +kernel
theorem dX31_init_4 : decode cX31_init 4 = .ok (.aload_n 0, 1) := by decide +kernel
theorem dX31_init_5 : decode cX31_init 5 = .ok (.iconst 3, 1) := by decide +kernel
theorem dX31_init_6 : decode cX31_init 6 = .ok (.anewarray 9, 3) := by decide +kernel
theorem dX31_init_9 : decode cX31_init 9 = .ok (.putfield 11, 3) := by decide +kernel
theorem dX31_init_12 : decode cX31_init 12 = .ok (.aload_n 0, 1) := by decide +kernel
theorem dX31_init_13 : decode cX31_init 13 = .ok (.iconst 3, 1) := by decide +kernel
theorem dX31_init_14 : decode cX31_init 14 = .ok (.anewarray 9, 3) := by decide +kernel
theorem dX31_init_17 : decode cX31_init 17 = .ok (.putfield 17, 3) := by decide +kernel
theorem dX31_init_20 : decode cX31_init 20 = .ok (.aload_n 0, 1) := by decide +kernel
theorem dX31_init_21 : decode cX31_init 21 = .ok (.iconst 3, 1) := by decide +kernel
theorem dX31_init_22 : decode cX31_init 22 = .ok (.newarray .int, 2) := by decide +kernel
theorem dX31_init_24 : decode cX31_init 24 = .ok (.putfield 20, 3) := by decide +kernel
theorem dX31_init_27 : decode cX31_init 27 = .ok (.aload_n 0, 1) := by decide +kernel
theorem dX31_init_28 : decode cX31_init 28 = .ok (.iconst 3, 1) := by decide +kernel
theorem dX31_init_29 : decode cX31_init 29 = .ok (.newarray .int, 2) := by decide +kernel
theorem dX31_init_31 : decode cX31_init 31 = .ok (.putfield 24, 3) := by decide +kernel
theorem dX31_init_34 : decode cX31_init 34 = .ok (.aload_n 0, 1) := by decide +kernel
theorem dX31_init_35 : decode cX31_init 35 = .ok (.iconst 3, 1) := by decide +kernel
theorem dX31_init_36 : decode cX31_init 36 = .ok (.newarray .int, 2) := by decide +kernel
theorem dX31_init_38 : decode cX31_init 38 = .ok (.putfield 27, 3) := by decide +kernel
theorem dX31_init_41 : decode cX31_init 41 = .ok (.aload_n 0, 1) := by decide +kernel
theorem dX31_init_42 : decode cX31_init 42 = .ok (.sipush 200, 3) := by decide +kernel
theorem dX31_init_45 : decode cX31_init 45 = .ok (.newarray .int, 2) := by decide +kernel
theorem dX31_init_47 : decode cX31_init 47 = .ok (.putfield 30, 3) := by decide +kernel
theorem dX31_init_50 : decode cX31_init 50 = .ok (.aload_n 0, 1) := by decide +kernel
theorem dX31_init_51 : decode cX31_init 51 = .ok (.sipush 200, 3) := by decide +kernel
theorem dX31_init_54 : decode cX31_init 54 = .ok (.newarray .int, 2) := by decide +kernel
theorem dX31_init_56 : decode cX31_init 56 = .ok (.putfield 33, 3) := by decide +kernel
theorem dX31_init_59 : decode cX31_init 59 = .ok (.aload_n 0, 1) := by decide +kernel
theorem dX31_init_60 : decode cX31_init 60 = .ok (.sipush 200, 3) := by decide +kernel
theorem dX31_init_63 : decode cX31_init 63 = .ok (.newarray .int, 2) := by decide +kernel
theorem dX31_init_65 : decode cX31_init 65 = .ok (.putfield 36, 3) := by decide +kernel
theorem dX31_init_68 : decode cX31_init 68 = .ok (.aload_n 0, 1) := by decide +kernel
theorem dX31_init_69 : decode cX31_init 69 = .ok (.sipush 200, 3) := by decide +kernel
theorem dX31_init_72 : decode cX31_init 72 = .ok (.newarray .boolean, 2) := by decide +kernel
theorem dX31_init_74 : decode cX31_init 74 = .ok (.putfield 39, 3) := by decide +kernel
theorem dX31_init_77 : decode cX31_init 77 = .ok (.aload_n 0, 1) := by decide +kernel
theorem dX31_init_78 : decode cX31_init 78 = .ok (.new 43, 3) := by decide +kernel
theorem dX31_init_81 : decode cX31_init 81 = .ok (.dup, 1) := by decide +kernel
theorem dX31_init_82 : decode cX31_init 82 = .ok (.bipush 60, 2) := by decide +kernel
theorem dX31_init_84 : decode cX31_init 84 = .ok (.invokespecial 45, 3) := by decide +kernel
theorem dX31_init_87 : decode cX31_init 87 = .ok (.putfield 48, 3) := by decide +kernel
theorem dX31_init_90 : decode cX31_init 90 = .ok (.aload_n 0, 1) := by decide +kernel
theorem dX31_init_91 : decode cX31_init 91 = .ok (.new 52, 3) := by decide +kernel
theorem dX31_init_94 : decode cX31_init 94 = .ok (.dup, 1) := by decide +kernel
theorem dX31_init_95 : decode cX31_init 95 = .ok (.aload_n 1, 1) := by decide +kernel
theorem dX31_init_96 : decode cX31_init 96 = .ok (.getfield 54, 3) := by decide +kernel
theorem dX31_init_99 : decode cX31_init 99 = .ok (.invokespecial 60, 3) := by decide +kernel
theorem dX31_init_102 : decode cX31_init 102 = .ok (.putfield 63, 3) := by decide +kernel
theorem dX31_init_105 : decode cX31_init 105 = .ok (.iconst 0, 1) := by decide +kernel
theorem dX31_init_106 : decode cX31_init 106 = .ok (.istore_n 2, 1) := by decide +kernel
theorem dX31_init_107 : decode cX31_init 107 = .ok (.iload_n 2, 1) := by decide +kernel
theorem dX31_init_108 : decode cX31_init 108 = .ok (.iconst 3, 1) := by decide +kernel
theorem dX31_init_109 : decode cX31_init 109 = .ok (.if_icmp .ge 35, 3) := by decide +kernel
theorem dX31_init_112 : decode cX31_init 112 = .ok (.aload_n 0, 1) := by decide +kernel
theorem dX31_init_113 : decode cX31_init 113 = .ok (.getfield 11, 3) := by decide +kernel
theorem dX31_init_116 : decode cX31_init 116 = .ok (.iload_n 2, 1) := by decide +kernel
theorem dX31_init_117 : decode cX31_init 117 = .ok (.new 9, 3) := by decide +kernel
theorem dX31_init_120 : decode cX31_init 120 = .ok (.dup, 1) := by decide +kernel
theorem dX31_init_121 : decode cX31_init 121 = .ok (.invokespecial 67, 3) := by decide +kernel
theorem dX31_init_124 : decode cX31_init 124 = .ok (.aastore, 1) := by decide +kernel
theorem dX31_init_125 : decode cX31_init 125 = .ok (.aload_n 0, 1) := by decide +kernel
theorem dX31_init_126 : decode cX31_init 126 = .ok (.getfield 17, 3) := by decide +kernel
theorem dX31_init_129 : decode cX31_init 129 = .ok (.iload_n 2, 1) := by decide +kernel
theorem dX31_init_130 : decode cX31_init 130 = .ok (.new 9, 3) := by decide +kernel
theorem dX31_init_133 : decode cX31_init 133 = .ok (.dup, 1) := by decide +kernel
theorem dX31_init_134 : decode cX31_init 134 = .ok (.invokespecial 67, 3) := by decide +kernel
theorem dX31_init_137 : decode cX31_init 137 = .ok (.aastore, 1) := by decide +kernel
theorem dX31_init_138 : decode cX31_init 138 = .ok (.iinc 2 1, 3) := by decide +kernel
theorem dX31_init_141 : decode cX31_init 141 = .ok (.goto (-34), 3) := by decide +kernel
theorem dX31_init_144 : decode cX31_init 144 = .ok (.return_, 1) := by decide +kernel
def b_X31_init_107 (x0 x2 : Int) (M : MM) : Option ((Int × MM) ⊕ (MM)) :=
  if w32 x2 < w32 3 then
    (gfr 31 0 x0 M).bind fun v1 =>
    (nob 3 1 48 M).bind fun r1 =>
    nn r1.1 <| (f_X3_init r1.1 r1.2).bind fun M1 =>
    (sar 13 v1 x2 r1.1 M1).bind fun M2 =>
    (gfr 31 1 x0 M2).bind fun v2 =>
    (nob 3 1 49 M2).bind fun r2 =>
    nn r2.1 <| (f_X3_init r2.1 r2.2).bind fun M3 =>
    (sar 13 v2 x2 r2.1 M3).bind fun M4 =>
    cnt (x2 + 1, M4)
  else
    xit (some M)
def l_X31_init_107 (x0 x2 : Int) (M : MM) : Option (MM) := lpN (fun s : Int × MM => b_X31_init_107 x0 s.1 s.2) FU (x2, M)
def f_X31_init (x0 x1 : Int) (M : MM) : Option (MM) :=
  nn x0 <| (f_X12_init x0 M).bind fun M1 =>
  (nar 637 3 M1).bind fun r1 =>
  (pfr 31 0 x0 r1.1 r1.2).bind fun M2 =>
  (nar 653 3 M2).bind fun r2 =>
  (pfr 31 1 x0 r2.1 r2.2).bind fun M3 =>
  (nar 656 3 M3).bind fun r3 =>
  (pfr 31 2 x0 r3.1 r3.2).bind fun M4 =>
  (nar 672 3 M4).bind fun r4 =>
  (pfr 31 3 x0 r4.1 r4.2).bind fun M5 =>
  (nar 688 3 M5).bind fun r5 =>
  (pfr 31 4 x0 r5.1 r5.2).bind fun M6 =>
  (nar 704 200 M6).bind fun r6 =>
  (pfr 31 9 x0 r6.1 r6.2).bind fun M7 =>
  (nar 720 200 M7).bind fun r7 =>
  (pfr 31 10 x0 r7.1 r7.2).bind fun M8 =>
  (nar 736 200 M8).bind fun r8 =>
  (pfr 31 11 x0 r8.1 r8.2).bind fun M9 =>
  (nar 754 200 M9).bind fun r9 =>
  (pfr 31 12 x0 r9.1 r9.2).bind fun M10 =>
  (nob 5 4 50 M10).bind fun r10 =>
  nn r10.1 <| (f_X5_init r10.1 60 r10.2).bind fun M11 =>
  (pfr 31 17 x0 r10.1 M11).bind fun M12 =>
  (nob 10 6 51 M12).bind fun r11 =>
  (gfr 6 3 x1 r11.2).bind fun v1 =>
  nn r11.1 <| (f_X10_init r11.1 v1 r11.2).bind fun M13 =>
  (pfr 31 8 x0 r11.1 M13).bind fun M14 =>
  l_X31_init_107 x0 0 M14
theorem s_X31_init_107 {g : GG} {d : Nat} (hD : 3 ≤ d) {x0 x2 : Int} {M : MM} {o : AV × MM} {P : ((Int × MM) ⊕ (MM)) → Prop} (c0 : ∀ s : Int × MM, P (.inl s) → Sem g d YX31_init 107 [(1, x0), (9, 0), (0, s.1)] [] s.2 o) (r0 : ∀ r : MM, P (.inr r) → o = ((9, 0), r)) {z : (Int × MM) ⊕ (MM)} (h : b_X31_init_107 x0 x2 M = some z) (hz : P z) : Sem g d YX31_init 107 [(1, x0), (9, 0), (0, x2)] [] M o := by
  delta b_X31_init_107 at h
  refine S_iload_n (i := 2) dX31_init_107 rfl rfl ?_
  refine S_iconst dX31_init_108 rfl ?_
  refine P_icmp_ge (tgt := 144) dX31_init_109 rfl h (fun h => ?_) (fun h => ?_)
  · obtain ⟨z0, h, hz⟩ := xit_some' (P := fun r => P r) h hz
    obtain rfl := r0 _ (some_P (P := fun r => P (.inr r)) h hz)
    exact S_return dX31_init_144 rfl
  · refine S_aload_n (i := 0) dX31_init_112 rfl rfl ?_
    refine P_gfr FLX31_11 rfl dX31_init_113 h (fun v1 h => ?_)
    refine S_iload_n (i := 2) dX31_init_116 rfl rfl ?_
    refine P_nob NLX31_9 rfl dX31_init_117 h (fun r1 h => ?_)
    refine S_dup dX31_init_120 (Nat.le_of_ble_eq_true rfl) ?_
    refine P_invI' [] [(1, r1.1), (0, x2), (1, v1)] CIX3_init MLX31_67 dX31_init_121 rfl rfl rfl rfl (by omega) h (fun r h => F_X3_init (by omega) h) (fun M1 h => ?_)
    refine P_sar (t := 13) ⟨by decide, by decide⟩ dX31_init_124 h (fun M2 h => ?_)
    refine S_aload_n (i := 0) dX31_init_125 rfl rfl ?_
    refine P_gfr FLX31_17 rfl dX31_init_126 h (fun v2 h => ?_)
    refine S_iload_n (i := 2) dX31_init_129 rfl rfl ?_
    refine P_nob NLX31_9 rfl dX31_init_130 h (fun r2 h => ?_)
    refine S_dup dX31_init_133 (Nat.le_of_ble_eq_true rfl) ?_
    refine P_invI' [] [(1, r2.1), (0, x2), (1, v2)] CIX3_init MLX31_67 dX31_init_134 rfl rfl rfl rfl (by omega) h (fun r h => F_X3_init (by omega) h) (fun M3 h => ?_)
    refine P_sar (t := 13) ⟨by decide, by decide⟩ dX31_init_137 h (fun M4 h => ?_)
    refine S_iinc dX31_init_138 rfl rfl rfl ?_
    change Sem g d YX31_init 141 [(1, x0), (9, 0), (0, x2 + 1)] [] M4 o
    refine S_goto (tgt := 107) dX31_init_141 rfl ?_
    exact c0 (x2 + 1, M4) (some_P (P := fun r => P r) h hz)
theorem sl_X31_init_107 {g : GG} {d : Nat} (hD : 3 ≤ d) {x0 x2 : Int} {M : MM} {o : AV × MM} {P : (MM) → Prop} (r0 : ∀ r : MM, P r → o = ((9, 0), r)) {z : MM} (h : l_X31_init_107 x0 x2 M = some z) (hz : P z) : Sem g d YX31_init 107 [(1, x0), (9, 0), (0, x2)] [] M o := by
  refine lp_sound (S := fun s : Int × MM => Sem g d YX31_init 107 [(1, x0), (9, 0), (0, s.1)] [] s.2 o) (P := P) ?_ FU (x2, M) z h hz
  intro s x hx hP
  exact s_X31_init_107 hD (P := Sum.elim (fun s : Int × MM => Sem g d YX31_init 107 [(1, x0), (9, 0), (0, s.1)] [] s.2 o) P) (fun s h => h) (fun s h => r0 s h) hx hP
theorem s_X31_init_0 {g : GG} {d : Nat} (hD : 3 ≤ d) {x0 x1 : Int} {M : MM} {o : AV × MM} {P : (MM) → Prop} (r0 : ∀ r : MM, P r → o = ((9, 0), r)) {z : MM} (h : f_X31_init x0 x1 M = some z) (hz : P z) : Sem g d YX31_init 0 [(1, x0), (1, x1), (9, 0)] [] M o := by
  delta f_X31_init at h
  refine S_aload_n (i := 0) dX31_init_0 rfl rfl ?_
  refine P_invI' [] [] CIX12_init MLX31_3 dX31_init_1 rfl rfl rfl rfl (by omega) h (fun r h => F_X12_init (by omega) h) (fun M1 h => ?_)
  refine S_aload_n (i := 0) dX31_init_4 rfl rfl ?_
  refine S_iconst dX31_init_5 rfl ?_
  refine P_naa (k := 637) (by decide) ⟨by decide, by decide⟩ q1807 dX31_init_6 h (fun r1 h => ?_)
  refine P_pfr FLX31_11 FPX31_11 (Or.inr ⟨_, rfl⟩) rfl dX31_init_9 h (fun M2 h => ?_)
  refine S_aload_n (i := 0) dX31_init_12 rfl rfl ?_
  refine S_iconst dX31_init_13 rfl ?_
  refine P_naa (k := 653) (by decide) ⟨by decide, by decide⟩ q1807 dX31_init_14 h (fun r2 h => ?_)
  refine P_pfr FLX31_17 FPX31_17 (Or.inr ⟨_, rfl⟩) rfl dX31_init_17 h (fun M3 h => ?_)
  refine S_aload_n (i := 0) dX31_init_20 rfl rfl ?_
  refine S_iconst dX31_init_21 rfl ?_
  refine P_nar (k := 656) (t := 0) (at' := .int) (by decide) (by decide) rfl q248 dX31_init_22 h (fun r3 h => ?_)
  refine P_pfr FLX31_20 FPX31_20 (Or.inr ⟨_, rfl⟩) rfl dX31_init_24 h (fun M4 h => ?_)
  refine S_aload_n (i := 0) dX31_init_27 rfl rfl ?_
  refine S_iconst dX31_init_28 rfl ?_
  refine P_nar (k := 672) (t := 0) (at' := .int) (by decide) (by decide) rfl q248 dX31_init_29 h (fun r4 h => ?_)
  refine P_pfr FLX31_24 FPX31_24 (Or.inr ⟨_, rfl⟩) rfl dX31_init_31 h (fun M5 h => ?_)
  refine S_aload_n (i := 0) dX31_init_34 rfl rfl ?_
  refine S_iconst dX31_init_35 rfl ?_
  refine P_nar (k := 688) (t := 0) (at' := .int) (by decide) (by decide) rfl q248 dX31_init_36 h (fun r5 h => ?_)
  refine P_pfr FLX31_27 FPX31_27 (Or.inr ⟨_, rfl⟩) rfl dX31_init_38 h (fun M6 h => ?_)
  refine S_aload_n (i := 0) dX31_init_41 rfl rfl ?_
  refine S_sipush (z := 200) dX31_init_42 rfl ?_
  refine P_nar (k := 704) (t := 0) (at' := .int) (by decide) (by decide) rfl q248 dX31_init_45 h (fun r6 h => ?_)
  refine P_pfr FLX31_30 FPX31_30 (Or.inr ⟨_, rfl⟩) rfl dX31_init_47 h (fun M7 h => ?_)
  refine S_aload_n (i := 0) dX31_init_50 rfl rfl ?_
  refine S_sipush (z := 200) dX31_init_51 rfl ?_
  refine P_nar (k := 720) (t := 0) (at' := .int) (by decide) (by decide) rfl q248 dX31_init_54 h (fun r7 h => ?_)
  refine P_pfr FLX31_33 FPX31_33 (Or.inr ⟨_, rfl⟩) rfl dX31_init_56 h (fun M8 h => ?_)
  refine S_aload_n (i := 0) dX31_init_59 rfl rfl ?_
  refine S_sipush (z := 200) dX31_init_60 rfl ?_
  refine P_nar (k := 736) (t := 0) (at' := .int) (by decide) (by decide) rfl q248 dX31_init_63 h (fun r8 h => ?_)
  refine P_pfr FLX31_36 FPX31_36 (Or.inr ⟨_, rfl⟩) rfl dX31_init_65 h (fun M9 h => ?_)
  refine S_aload_n (i := 0) dX31_init_68 rfl rfl ?_
  refine S_sipush (z := 200) dX31_init_69 rfl ?_
  refine P_nar (k := 754) (t := 0) (at' := .boolean) (by decide) (by decide) rfl q1869 dX31_init_72 h (fun r9 h => ?_)
  refine P_pfr FLX31_39 FPX31_39 (Or.inr ⟨_, rfl⟩) rfl dX31_init_74 h (fun M10 h => ?_)
  refine S_aload_n (i := 0) dX31_init_77 rfl rfl ?_
  refine P_nob NLX31_43 rfl dX31_init_78 h (fun r10 h => ?_)
  refine S_dup dX31_init_81 (Nat.le_of_ble_eq_true rfl) ?_
  refine S_bipush (z := 60) dX31_init_82 rfl ?_
  refine P_invI' [(0, 60)] [(1, r10.1), (1, x0)] CIX5_init MLX31_45 dX31_init_84 rfl rfl rfl rfl (by omega) h (fun r h => F_X5_init (by omega) h) (fun M11 h => ?_)
  refine P_pfr FLX31_48 FPX31_48 (Or.inl ⟨_, rfl⟩) rfl dX31_init_87 h (fun M12 h => ?_)
  refine S_aload_n (i := 0) dX31_init_90 rfl rfl ?_
  refine P_nob NLX31_52 rfl dX31_init_91 h (fun r11 h => ?_)
  refine S_dup dX31_init_94 (Nat.le_of_ble_eq_true rfl) ?_
  refine S_aload_n (i := 1) dX31_init_95 rfl rfl ?_
  refine P_gfr FLX31_54 rfl dX31_init_96 h (fun v1 h => ?_)
  refine P_invI' [(1, v1)] [(1, r11.1), (1, x0)] CIX10_init MLX31_60 dX31_init_99 rfl rfl rfl rfl (by omega) h (fun r h => F_X10_init (by omega) h) (fun M13 h => ?_)
  refine P_pfr FLX31_63 FPX31_63 (Or.inl ⟨_, rfl⟩) rfl dX31_init_102 h (fun M14 h => ?_)
  refine S_iconst dX31_init_105 rfl ?_
  refine S_istore_n (i := 2) dX31_init_106 rfl (Nat.le_of_ble_eq_true rfl) rfl rfl ?_
  change Sem g d YX31_init 107 [(1, x0), (1, x1), (0, 0)] [] M14 o
  refine S_weak (ls' := [(1, x0), (9, 0), (0, 0)]) ⟨Or.inr rfl, ⟨Or.inl rfl, ⟨Or.inr rfl, trivial⟩⟩⟩ ?_
  exact sl_X31_init_107 hD r0 h hz
theorem F_X31_init {g : GG} {d : Nat} (hD : 3 ≤ d) {x0 x1 : Int} {M : MM} {r : MM} (h : f_X31_init x0 x1 M = some r) : Sem g d YX31_init 0 (ini YX31_init [(1, x0), (1, x1)]) [] M ((9, 0), r) := by
  change Sem g d YX31_init 0 [(1, x0), (1, x1), (9, 0)] [] M ((9, 0), r)
  exact s_X31_init_0 hD (P := fun x => x = r) (fun q e => by rw [e]) h rfl
/-! PeerSearch$Work.asking()LPeerSearch$Asking; -/
theorem dX11_asking_0 : decode cX11_asking 0 = .ok (.aload_n 0, 1) := by decide +kernel
theorem dX11_asking_1 : decode cX11_asking 1 = .ok (.getfield 58, 3) := by decide +kernel
theorem dX11_asking_4 : decode cX11_asking 4 = .ok (.ifnonnull 18, 3) := by decide +kernel
theorem dX11_asking_7 : decode cX11_asking 7 = .ok (.aload_n 0, 1) := by decide +kernel
theorem dX11_asking_8 : decode cX11_asking 8 = .ok (.new 62, 3) := by decide +kernel
theorem dX11_asking_11 : decode cX11_asking 11 = .ok (.dup, 1) := by decide +kernel
theorem dX11_asking_12 : decode cX11_asking 12 = .ok (.aload_n 0, 1) := by decide +kernel
theorem dX11_asking_13 : decode cX11_asking 13 = .ok (.getfield 32, 3) := by decide +kernel
theorem dX11_asking_16 : decode cX11_asking 16 = .ok (.invokespecial 64, 3) := by decide +kernel
theorem dX11_asking_19 : decode cX11_asking 19 = .ok (.putfield 58, 3) := by decide +kernel
theorem dX11_asking_22 : decode cX11_asking 22 = .ok (.aload_n 0, 1) := by decide +kernel
theorem dX11_asking_23 : decode cX11_asking 23 = .ok (.getfield 58, 3) := by decide +kernel
theorem dX11_asking_26 : decode cX11_asking 26 = .ok (.areturn, 1) := by decide +kernel
def j_X11_asking_22 (x0 : Int) (M : MM) : Option (Int × MM) :=
  (gfr 11 11 x0 M).bind fun v1 =>
  some (v1, M)
def f_X11_asking (x0 : Int) (M : MM) : Option (Int × MM) :=
  (gfr 11 11 x0 M).bind fun v1 =>
  if v1 = -1 then
    (nob 31 18 52 M).bind fun r1 =>
    (gfr 11 0 x0 r1.2).bind fun v2 =>
    nn r1.1 <| (f_X31_init r1.1 v2 r1.2).bind fun M1 =>
    (pfr 11 11 x0 r1.1 M1).bind fun M2 =>
    j_X11_asking_22 x0 M2
  else
    j_X11_asking_22 x0 M
theorem s_X11_asking_22 {g : GG} {d : Nat} (hD : 4 ≤ d) {x0 : Int} {M : MM} {o : AV × MM} {P : (Int × MM) → Prop} (r0 : ∀ r : Int × MM, P r → o = ((1, r.1), r.2)) {z : Int × MM} (h : j_X11_asking_22 x0 M = some z) (hz : P z) : Sem g d YX11_asking 22 [(1, x0)] [] M o := by
  delta j_X11_asking_22 at h
  refine S_aload_n (i := 0) dX11_asking_22 rfl rfl ?_
  refine P_gfr FLX11_58 rfl dX11_asking_23 h (fun v1 h => ?_)
  obtain rfl := r0 _ (some_P (P := fun r => P r) h hz)
  exact S_areturn dX11_asking_26 ⟨_, rfl, Or.inl ⟨_, rfl⟩⟩
theorem s_X11_asking_0 {g : GG} {d : Nat} (hD : 4 ≤ d) {x0 : Int} {M : MM} {o : AV × MM} {P : (Int × MM) → Prop} (r0 : ∀ r : Int × MM, P r → o = ((1, r.1), r.2)) {z : Int × MM} (h : f_X11_asking x0 M = some z) (hz : P z) : Sem g d YX11_asking 0 [(1, x0)] [] M o := by
  delta f_X11_asking at h
  refine S_aload_n (i := 0) dX11_asking_0 rfl rfl ?_
  refine P_gfr FLX11_58 rfl dX11_asking_1 h (fun v1 h => ?_)
  refine P_ifnonnull (tgt := 22) dX11_asking_4 rfl h (fun h => ?_) (fun h => ?_)
  · exact s_X11_asking_22 hD r0 h hz
  · refine S_aload_n (i := 0) dX11_asking_7 rfl rfl ?_
    refine P_nob NLX11_62 rfl dX11_asking_8 h (fun r1 h => ?_)
    refine S_dup dX11_asking_11 (Nat.le_of_ble_eq_true rfl) ?_
    refine S_aload_n (i := 0) dX11_asking_12 rfl rfl ?_
    refine P_gfr FLX11_32 rfl dX11_asking_13 h (fun v2 h => ?_)
    refine P_invI' [(1, v2)] [(1, r1.1), (1, x0)] CIX31_init MLX11_64 dX11_asking_16 rfl rfl rfl rfl (by omega) h (fun r h => F_X31_init (by omega) h) (fun M1 h => ?_)
    refine P_pfr FLX11_58 FPX11_58 (Or.inl ⟨_, rfl⟩) rfl dX11_asking_19 h (fun M2 h => ?_)
    exact s_X11_asking_22 hD r0 h hz
theorem F_X11_asking {g : GG} {d : Nat} (hD : 4 ≤ d) {x0 : Int} {M : MM} {r : Int × MM} (h : f_X11_asking x0 M = some r) : Sem g d YX11_asking 0 (ini YX11_asking [(1, x0)]) [] M ((1, r.1), r.2) := by
  change Sem g d YX11_asking 0 [(1, x0)] [] M ((1, r.1), r.2)
  exact s_X11_asking_0 hD (P := fun x => x = r) (fun q e => by rw [e]) h rfl
/-! PeerSearch.query(I)I -/
theorem dX1_query_0 : decode cX1_query 0 = .ok (.aload_n 0, 1) := by decide +kernel
theorem dX1_query_1 : decode cX1_query 1 = .ok (.getfield 34, 3) := by decide +kernel
theorem dX1_query_4 : decode cX1_query 4 = .ok (.aload_n 0, 1) := by decide +kernel
theorem dX1_query_5 : decode cX1_query 5 = .ok (.getfield 13, 3) := by decide +kernel
theorem dX1_query_8 : decode cX1_query 8 = .ok (.aload_n 0, 1) := by decide +kernel
theorem dX1_query_9 : decode cX1_query 9 = .ok (.invokevirtual 123, 3) := by decide +kernel
theorem dX1_query_12 : decode cX1_query 12 = .ok (.invokevirtual 228, 3) := by decide +kernel
theorem dX1_query_15 : decode cX1_query 15 = .ok (.aload_n 0, 1) := by decide +kernel
theorem dX1_query_16 : decode cX1_query 16 = .ok (.invokevirtual 167, 3) := by decide +kernel
theorem dX1_query_19 : decode cX1_query 19 = .ok (.astore_n 2, 1) := by decide +kernel
theorem dX1_query_20 : decode cX1_query 20 = .ok (.aload_n 0, 1) := by decide +kernel
theorem dX1_query_21 : decode cX1_query 21 = .ok (.iload_n 1, 1) := by decide +kernel
theorem dX1_query_22 : decode cX1_query 22 = .ok (.invokevirtual 149, 3) := by decide +kernel
theorem dX1_query_25 : decode cX1_query 25 = .ok (.ifCond .eq 14, 3) := by decide +kernel
theorem dX1_query_28 : decode cX1_query 28 = .ok (.aload_n 2, 1) := by decide +kernel
theorem dX1_query_29 : decode cX1_query 29 = .ok (.ifnull 10, 3) := by decide +kernel
theorem dX1_query_32 : decode cX1_query 32 = .ok (.aload_n 0, 1) := by decide +kernel
theorem dX1_query_33 : decode cX1_query 33 = .ok (.invokevirtual 256, 3) := by decide +kernel
theorem dX1_query_36 : decode cX1_query 36 = .ok (.ifCond .ne 5, 3) := by decide +kernel
theorem dX1_query_39 : decode cX1_query 39 = .ok (.iconst (-1), 1) := by decide +kernel
theorem dX1_query_40 : decode cX1_query 40 = .ok (.ireturn, 1) := by decide +kernel
theorem dX1_query_41 : decode cX1_query 41 = .ok (.aload_n 2, 1) := by decide +kernel
theorem dX1_query_42 : decode cX1_query 42 = .ok (.invokevirtual 260, 3) := by decide +kernel
theorem dX1_query_45 : decode cX1_query 45 = .ok (.astore_n 3, 1) := by decide +kernel
theorem dX1_query_46 : decode cX1_query 46 = .ok (.aload_n 3, 1) := by decide +kernel
theorem dX1_query_47 : decode cX1_query 47 = .ok (.invokevirtual 264, 3) := by decide +kernel
theorem dX1_query_50 : decode cX1_query 50 = .ok (.iconst 0, 1) := by decide +kernel
theorem dX1_query_51 : decode cX1_query 51 = .ok (.istore 4, 2) := by decide +kernel
theorem dX1_query_53 : decode cX1_query 53 = .ok (.iload 4, 2) := by decide +kernel
theorem dX1_query_55 : decode cX1_query 55 = .ok (.aload_n 0, 1) := by decide +kernel
theorem dX1_query_56 : decode cX1_query 56 = .ok (.getfield 34, 3) := by decide +kernel
theorem dX1_query_59 : decode cX1_query 59 = .ok (.getfield 253, 3) := by decide +kernel
theorem dX1_query_62 : decode cX1_query 62 = .ok (.if_icmp .ge 92, 3) := by decide +kernel
theorem dX1_query_65 : decode cX1_query 65 = .ok (.iconst 0, 1) := by decide +kernel
theorem dX1_query_66 : decode cX1_query 66 = .ok (.istore 5, 2) := by decide +kernel
theorem dX1_query_68 : decode cX1_query 68 = .ok (.iload 5, 2) := by decide +kernel
theorem dX1_query_70 : decode cX1_query 70 = .ok (.aload_n 0, 1) := by decide +kernel
theorem dX1_query_71 : decode cX1_query 71 = .ok (.getfield 34, 3) := by decide +kernel
theorem dX1_query_74 : decode cX1_query 74 = .ok (.getfield 269, 3) := by decide +kernel
theorem dX1_query_77 : decode cX1_query 77 = .ok (.iload 4, 2) := by decide +kernel
theorem dX1_query_79 : decode cX1_query 79 = .ok (.iaload, 1) := by decide +kernel
theorem dX1_query_80 : decode cX1_query 80 = .ok (.if_icmp .ge 32, 3) := by decide +kernel
theorem dX1_query_83 : decode cX1_query 83 = .ok (.aload_n 0, 1) := by decide +kernel
theorem dX1_query_84 : decode cX1_query 84 = .ok (.getfield 16, 3) := by decide +kernel
theorem dX1_query_87 : decode cX1_query 87 = .ok (.iload 5, 2) := by decide +kernel
theorem dX1_query_89 : decode cX1_query 89 = .ok (.aload_n 0, 1) := by decide +kernel
theorem dX1_query_90 : decode cX1_query 90 = .ok (.getfield 34, 3) := by decide +kernel
theorem dX1_query_93 : decode cX1_query 93 = .ok (.getfield 272, 3) := by decide +kernel
theorem dX1_query_96 : decode cX1_query 96 = .ok (.bipush 12, 2) := by decide +kernel
theorem dX1_query_98 : decode cX1_query 98 = .ok (.iload 4, 2) := by decide +kernel
theorem dX1_query_100 : decode cX1_query 100 = .ok (.imul, 1) := by decide +kernel
theorem dX1_query_101 : decode cX1_query 101 = .ok (.iload 5, 2) := by decide +kernel
theorem dX1_query_103 : decode cX1_query 103 = .ok (.iadd, 1) := by decide +kernel
theorem dX1_query_104 : decode cX1_query 104 = .ok (.baload, 1) := by decide +kernel
theorem dX1_query_105 : decode cX1_query 105 = .ok (.bastore, 1) := by decide +kernel
theorem dX1_query_106 : decode cX1_query 106 = .ok (.iinc 5 1, 3) := by decide +kernel
theorem dX1_query_109 : decode cX1_query 109 = .ok (.goto (-41), 3) := by decide +kernel
theorem dX1_query_112 : decode cX1_query 112 = .ok (.aload_n 0, 1) := by decide +kernel
theorem dX1_query_113 : decode cX1_query 113 = .ok (.getfield 70, 3) := by decide +kernel
theorem dX1_query_116 : decode cX1_query 116 = .ok (.getfield 95, 3) := by decide +kernel
theorem dX1_query_119 : decode cX1_query 119 = .ok (.aload_n 0, 1) := by decide +kernel
theorem dX1_query_120 : decode cX1_query 120 = .ok (.getfield 16, 3) := by decide +kernel
theorem dX1_query_123 : decode cX1_query 123 = .ok (.aload_n 0, 1) := by decide +kernel
theorem dX1_query_124 : decode cX1_query 124 = .ok (.getfield 34, 3) := by decide +kernel
theorem dX1_query_127 : decode cX1_query 127 = .ok (.getfield 269, 3) := by decide +kernel
theorem dX1_query_130 : decode cX1_query 130 = .ok (.iload 4, 2) := by decide +kernel
theorem dX1_query_132 : decode cX1_query 132 = .ok (.iaload, 1) := by decide +kernel
theorem dX1_query_133 : decode cX1_query 133 = .ok (.aload_n 0, 1) := by decide +kernel
theorem dX1_query_134 : decode cX1_query 134 = .ok (.getfield 41, 3) := by decide +kernel
theorem dX1_query_137 : decode cX1_query 137 = .ok (.invokevirtual 99, 3) := by decide +kernel
theorem dX1_query_140 : decode cX1_query 140 = .ok (.aload_n 3, 1) := by decide +kernel
theorem dX1_query_141 : decode cX1_query 141 = .ok (.aload_n 0, 1) := by decide +kernel
theorem dX1_query_142 : decode cX1_query 142 = .ok (.getfield 41, 3) := by decide +kernel
theorem dX1_query_145 : decode cX1_query 145 = .ok (.invokevirtual 275, 3) := by decide +kernel
theorem dX1_query_148 : decode cX1_query 148 = .ok (.iinc 4 1, 3) := by decide +kernel
theorem dX1_query_151 : decode cX1_query 151 = .ok (.goto (-98), 3) := by decide +kernel
theorem dX1_query_154 : decode cX1_query 154 = .ok (.aload_n 0, 1) := by decide +kernel
theorem dX1_query_155 : decode cX1_query 155 = .ok (.aload_n 2, 1) := by decide +kernel
theorem dX1_query_156 : decode cX1_query 156 = .ok (.iload_n 1, 1) := by decide +kernel
theorem dX1_query_157 : decode cX1_query 157 = .ok (.iconst 3, 1) := by decide +kernel
theorem dX1_query_158 : decode cX1_query 158 = .ok (.aload_n 3, 1) := by decide +kernel
theorem dX1_query_159 : decode cX1_query 159 = .ok (.invokevirtual 185, 3) := by decide +kernel
theorem dX1_query_162 : decode cX1_query 162 = .ok (.ireturn, 1) := by decide +kernel
def j_X1_query_154 (x0 x1 x2 x3 : Int) (M : MM) : Option (Int × MM) :=
  ck 1 x0 M <| (f_X1_begin x0 x2 x1 3 x3 M).bind fun r1 =>
  some (r1.1, r1.2)
def j_X1_query_112 (x0 x1 x2 x3 x4 : Int) (M : MM) : Option ((Int × MM) ⊕ (Int × MM)) :=
  (gfr 1 0 x0 M).bind fun v1 =>
  (gfr 6 3 v1 M).bind fun v2 =>
  (gfr 1 4 x0 M).bind fun v3 =>
  (gfr 1 9 x0 M).bind fun v4 =>
  (gfr 2 1 v4 M).bind fun v5 =>
  (lai v5 x4 M).bind fun v6 =>
  (gfr 1 10 x0 M).bind fun v7 =>
  ck 8 v2 M <| (f_X8_of v2 v3 v6 v7 M).bind fun M1 =>
  (gfr 1 10 x0 M1).bind fun v8 =>
  ck 31 x3 M1 <| (f_X31_add x3 v8 M1).bind fun M2 =>
  cnt (x4 + 1, M2)
def b_X1_query_68 (x0 x1 x2 x3 x4 x5 : Int) (M : MM) : Option ((Int × MM) ⊕ ((Int × MM) ⊕ (Int × MM))) :=
  (gfr 1 9 x0 M).bind fun v1 =>
  (gfr 2 1 v1 M).bind fun v2 =>
  (lai v2 x4 M).bind fun v3 =>
  if w32 x5 < w32 v3 then
    (gfr 1 4 x0 M).bind fun v4 =>
    (gfr 1 9 x0 M).bind fun v5 =>
    (gfr 2 0 v5 M).bind fun v6 =>
    (lab v6 ((12 * x4) + x5) M).bind fun v7 =>
    (sab v4 x5 v7 M).bind fun M1 =>
    cnt (x5 + 1, M1)
  else
    xit (j_X1_query_112 x0 x1 x2 x3 x4 M)
def l_X1_query_68 (x0 x1 x2 x3 x4 x5 : Int) (M : MM) : Option ((Int × MM) ⊕ (Int × MM)) := lpN (fun s : Int × MM => b_X1_query_68 x0 x1 x2 x3 x4 s.1 s.2) FU (x5, M)
def b_X1_query_53 (x0 x1 x2 x3 x4 : Int) (M : MM) : Option ((Int × MM) ⊕ (Int × MM)) :=
  (gfr 1 9 x0 M).bind fun v1 =>
  (gfi 2 3 v1 M).bind fun v2 =>
  if w32 x4 < w32 v2 then
    l_X1_query_68 x0 x1 x2 x3 x4 0 M
  else
    xit (j_X1_query_154 x0 x1 x2 x3 M)
def l_X1_query_53 (x0 x1 x2 x3 x4 : Int) (M : MM) : Option (Int × MM) := lpN (fun s : Int × MM => b_X1_query_53 x0 x1 x2 x3 s.1 s.2) FU (x4, M)
def j_X1_query_39 (M : MM) : Option (Int × MM) :=
  some ((-1), M)
def f_X1_query (x0 x1 : Int) (M : MM) : Option (Int × MM) :=
  (gfr 1 9 x0 M).bind fun v1 =>
  (gfr 1 3 x0 M).bind fun v2 =>
  ck 1 x0 M <| (f_X1_take x0 M).bind fun r1 =>
  ck 2 v1 r1.2 <| (f_X2_cut v1 v2 r1.1 r1.2).bind fun M1 =>
  ck 1 x0 M1 <| (f_X1_free x0 M1).bind fun v3 =>
  ck 1 x0 M1 <| (f_X1_isLive x0 x1 M1).bind fun v4 =>
  if w32 v4 = 0 then
    j_X1_query_39 M1
  else
    if v3 = -1 then
      j_X1_query_39 M1
    else
      ck 1 x0 M1 <| (f_X1_areAsked x0 M1).bind fun v5 =>
      if w32 v5 = 0 then
        j_X1_query_39 M1
      else
        ck 11 v3 M1 <| (f_X11_asking v3 M1).bind fun r2 =>
        ck 31 r2.1 r2.2 <| (f_X31_clear r2.1 r2.2).bind fun M2 =>
        l_X1_query_53 x0 x1 v3 r2.1 0 M2
theorem s_X1_query_154 {g : GG} {d : Nat} (hD : 215 ≤ d) {x0 x1 x2 x3 : Int} {M : MM} {o : AV × MM} {P : (Int × MM) → Prop} (r0 : ∀ r : Int × MM, P r → o = ((0, r.1), r.2)) {z : Int × MM} (h : j_X1_query_154 x0 x1 x2 x3 M = some z) (hz : P z) : Sem g d YX1_query 154 [(1, x0), (0, x1), (1, x2), (1, x3), (9, 0), (9, 0)] [] M o := by
  delta j_X1_query_154 at h
  refine S_aload_n (i := 0) dX1_query_154 rfl rfl ?_
  refine S_aload_n (i := 2) dX1_query_155 rfl rfl ?_
  refine S_iload_n (i := 1) dX1_query_156 rfl rfl ?_
  refine S_iconst dX1_query_157 rfl ?_
  refine S_aload_n (i := 3) dX1_query_158 rfl rfl ?_
  refine P_invVe 0 [(1, x2), (0, x1), (0, 3), (1, x3)] [] CVX1_begin MLX1_185 dX1_query_159 rfl rfl rfl rfl rfl (by omega) h (fun r h => F_X1_begin (by omega) h) (fun r1 h => ?_)
  obtain rfl := r0 _ (some_P (P := fun r => P r) h hz)
  exact P_ret dX1_query_162 rfl (Or.inl rfl)
theorem s_X1_query_112 {g : GG} {d : Nat} (hD : 215 ≤ d) {x0 x1 x2 x3 x4 : Int} {M : MM} {o : AV × MM} {P : ((Int × MM) ⊕ (Int × MM)) → Prop} (c0 : ∀ s : Int × MM, P (.inl s) → Sem g d YX1_query 53 [(1, x0), (0, x1), (1, x2), (1, x3), (0, s.1), (9, 0)] [] s.2 o) (r0 : ∀ r : Int × MM, P (.inr r) → o = ((0, r.1), r.2)) {z : (Int × MM) ⊕ (Int × MM)} (h : j_X1_query_112 x0 x1 x2 x3 x4 M = some z) (hz : P z) : Sem g d YX1_query 112 [(1, x0), (0, x1), (1, x2), (1, x3), (0, x4), (9, 0)] [] M o := by
  delta j_X1_query_112 at h
  refine S_aload_n (i := 0) dX1_query_112 rfl rfl ?_
  refine P_gfr FLX1_70 rfl dX1_query_113 h (fun v1 h => ?_)
  refine P_gfr FLX1_95 rfl dX1_query_116 h (fun v2 h => ?_)
  refine S_aload_n (i := 0) dX1_query_119 rfl rfl ?_
  refine P_gfr FLX1_16 rfl dX1_query_120 h (fun v3 h => ?_)
  refine S_aload_n (i := 0) dX1_query_123 rfl rfl ?_
  refine P_gfr FLX1_34 rfl dX1_query_124 h (fun v4 h => ?_)
  refine P_gfr FLX1_269 rfl dX1_query_127 h (fun v5 h => ?_)
  refine S_iload dX1_query_130 rfl ?_
  refine P_lai dX1_query_132 h (fun v6 h => ?_)
  refine S_aload_n (i := 0) dX1_query_133 rfl rfl ?_
  refine P_gfr FLX1_41 rfl dX1_query_134 h (fun v7 h => ?_)
  refine P_invVm' [(1, v3), (0, v6), (1, v7)] [] CVX8_of MLX1_99 dX1_query_137 rfl rfl rfl rfl (by omega) h (fun r h => F_X8_of (by omega) h) (fun M1 h => ?_)
  refine S_aload_n (i := 3) dX1_query_140 rfl rfl ?_
  refine S_aload_n (i := 0) dX1_query_141 rfl rfl ?_
  refine P_gfr FLX1_41 rfl dX1_query_142 h (fun v8 h => ?_)
  refine P_invVm' [(1, v8)] [] CVX31_add MLX1_275 dX1_query_145 rfl rfl rfl rfl (by omega) h (fun r h => F_X31_add (by omega) h) (fun M2 h => ?_)
  refine S_iinc dX1_query_148 rfl rfl rfl ?_
  change Sem g d YX1_query 151 [(1, x0), (0, x1), (1, x2), (1, x3), (0, x4 + 1), (9, 0)] [] M2 o
  refine S_goto (tgt := 53) dX1_query_151 rfl ?_
  exact c0 (x4 + 1, M2) (some_P (P := fun r => P r) h hz)
theorem s_X1_query_68 {g : GG} {d : Nat} (hD : 215 ≤ d) {x0 x1 x2 x3 x4 x5 : Int} {M : MM} {o : AV × MM} {P : ((Int × MM) ⊕ ((Int × MM) ⊕ (Int × MM))) → Prop} (c1 : ∀ s : Int × MM, P (.inl s) → Sem g d YX1_query 68 [(1, x0), (0, x1), (1, x2), (1, x3), (0, x4), (0, s.1)] [] s.2 o) (c0 : ∀ s : Int × MM, P (.inr (.inl s)) → Sem g d YX1_query 53 [(1, x0), (0, x1), (1, x2), (1, x3), (0, s.1), (9, 0)] [] s.2 o) (r0 : ∀ r : Int × MM, P (.inr (.inr r)) → o = ((0, r.1), r.2)) {z : (Int × MM) ⊕ ((Int × MM) ⊕ (Int × MM))} (h : b_X1_query_68 x0 x1 x2 x3 x4 x5 M = some z) (hz : P z) : Sem g d YX1_query 68 [(1, x0), (0, x1), (1, x2), (1, x3), (0, x4), (0, x5)] [] M o := by
  delta b_X1_query_68 at h
  refine S_iload dX1_query_68 rfl ?_
  refine S_aload_n (i := 0) dX1_query_70 rfl rfl ?_
  refine P_gfr FLX1_34 rfl dX1_query_71 h (fun v1 h => ?_)
  refine P_gfr FLX1_269 rfl dX1_query_74 h (fun v2 h => ?_)
  refine S_iload dX1_query_77 rfl ?_
  refine P_lai dX1_query_79 h (fun v3 h => ?_)
  refine P_icmp_ge (tgt := 112) dX1_query_80 rfl h (fun h => ?_) (fun h => ?_)
  · refine S_weak (ls' := [(1, x0), (0, x1), (1, x2), (1, x3), (0, x4), (9, 0)]) ⟨Or.inr rfl, ⟨Or.inr rfl, ⟨Or.inr rfl, ⟨Or.inr rfl, ⟨Or.inr rfl, ⟨Or.inl rfl, trivial⟩⟩⟩⟩⟩⟩ ?_
    obtain ⟨z0, h, hz⟩ := xit_some' (P := fun r => P r) h hz
    exact s_X1_query_112 hD (P := fun r => P (.inr r)) c0 r0 h hz
  · refine S_aload_n (i := 0) dX1_query_83 rfl rfl ?_
    refine P_gfr FLX1_16 rfl dX1_query_84 h (fun v4 h => ?_)
    refine S_iload dX1_query_87 rfl ?_
    refine S_aload_n (i := 0) dX1_query_89 rfl rfl ?_
    refine P_gfr FLX1_34 rfl dX1_query_90 h (fun v5 h => ?_)
    refine P_gfr FLX1_272 rfl dX1_query_93 h (fun v6 h => ?_)
    refine S_bipush (z := 12) dX1_query_96 rfl ?_
    refine S_iload dX1_query_98 rfl ?_
    refine S_imul dX1_query_100 ?_
    refine S_iload dX1_query_101 rfl ?_
    refine S_iadd dX1_query_103 ?_
    refine P_lab dX1_query_104 h (fun v7 h => ?_)
    refine P_sab dX1_query_105 h (fun M1 h => ?_)
    refine S_iinc dX1_query_106 rfl rfl rfl ?_
    change Sem g d YX1_query 109 [(1, x0), (0, x1), (1, x2), (1, x3), (0, x4), (0, x5 + 1)] [] M1 o
    refine S_goto (tgt := 68) dX1_query_109 rfl ?_
    exact c1 (x5 + 1, M1) (some_P (P := fun r => P r) h hz)
theorem sl_X1_query_68 {g : GG} {d : Nat} (hD : 215 ≤ d) {x0 x1 x2 x3 x4 x5 : Int} {M : MM} {o : AV × MM} {P : ((Int × MM) ⊕ (Int × MM)) → Prop} (c0 : ∀ s : Int × MM, P (.inl s) → Sem g d YX1_query 53 [(1, x0), (0, x1), (1, x2), (1, x3), (0, s.1), (9, 0)] [] s.2 o) (r0 : ∀ r : Int × MM, P (.inr r) → o = ((0, r.1), r.2)) {z : (Int × MM) ⊕ (Int × MM)} (h : l_X1_query_68 x0 x1 x2 x3 x4 x5 M = some z) (hz : P z) : Sem g d YX1_query 68 [(1, x0), (0, x1), (1, x2), (1, x3), (0, x4), (0, x5)] [] M o := by
  refine lp_sound (S := fun s : Int × MM => Sem g d YX1_query 68 [(1, x0), (0, x1), (1, x2), (1, x3), (0, x4), (0, s.1)] [] s.2 o) (P := P) ?_ FU (x5, M) z h hz
  intro s x hx hP
  exact s_X1_query_68 hD (P := Sum.elim (fun s : Int × MM => Sem g d YX1_query 68 [(1, x0), (0, x1), (1, x2), (1, x3), (0, x4), (0, s.1)] [] s.2 o) P) (fun s h => h) (fun s h => c0 s h) (fun s h => r0 s h) hx hP
theorem s_X1_query_53 {g : GG} {d : Nat} (hD : 215 ≤ d) {x0 x1 x2 x3 x4 : Int} {M : MM} {o : AV × MM} {P : ((Int × MM) ⊕ (Int × MM)) → Prop} (c0 : ∀ s : Int × MM, P (.inl s) → Sem g d YX1_query 53 [(1, x0), (0, x1), (1, x2), (1, x3), (0, s.1), (9, 0)] [] s.2 o) (r0 : ∀ r : Int × MM, P (.inr r) → o = ((0, r.1), r.2)) {z : (Int × MM) ⊕ (Int × MM)} (h : b_X1_query_53 x0 x1 x2 x3 x4 M = some z) (hz : P z) : Sem g d YX1_query 53 [(1, x0), (0, x1), (1, x2), (1, x3), (0, x4), (9, 0)] [] M o := by
  delta b_X1_query_53 at h
  refine S_iload dX1_query_53 rfl ?_
  refine S_aload_n (i := 0) dX1_query_55 rfl rfl ?_
  refine P_gfr FLX1_34 rfl dX1_query_56 h (fun v1 h => ?_)
  refine P_gfi FLX1_253 rfl dX1_query_59 h (fun v2 h => ?_)
  refine P_icmp_ge (tgt := 154) dX1_query_62 rfl h (fun h => ?_) (fun h => ?_)
  · refine S_weak (ls' := [(1, x0), (0, x1), (1, x2), (1, x3), (9, 0), (9, 0)]) ⟨Or.inr rfl, ⟨Or.inr rfl, ⟨Or.inr rfl, ⟨Or.inr rfl, ⟨Or.inl rfl, ⟨Or.inl rfl, trivial⟩⟩⟩⟩⟩⟩ ?_
    obtain ⟨z0, h, hz⟩ := xit_some' (P := fun r => P r) h hz
    exact s_X1_query_154 hD (P := fun r => P (.inr r)) r0 h hz
  · refine S_iconst dX1_query_65 rfl ?_
    refine S_istore dX1_query_66 (Nat.le_of_ble_eq_true rfl) rfl rfl ?_
    change Sem g d YX1_query 68 [(1, x0), (0, x1), (1, x2), (1, x3), (0, x4), (0, 0)] [] M o
    exact sl_X1_query_68 hD c0 r0 h hz
theorem sl_X1_query_53 {g : GG} {d : Nat} (hD : 215 ≤ d) {x0 x1 x2 x3 x4 : Int} {M : MM} {o : AV × MM} {P : (Int × MM) → Prop} (r0 : ∀ r : Int × MM, P r → o = ((0, r.1), r.2)) {z : Int × MM} (h : l_X1_query_53 x0 x1 x2 x3 x4 M = some z) (hz : P z) : Sem g d YX1_query 53 [(1, x0), (0, x1), (1, x2), (1, x3), (0, x4), (9, 0)] [] M o := by
  refine lp_sound (S := fun s : Int × MM => Sem g d YX1_query 53 [(1, x0), (0, x1), (1, x2), (1, x3), (0, s.1), (9, 0)] [] s.2 o) (P := P) ?_ FU (x4, M) z h hz
  intro s x hx hP
  exact s_X1_query_53 hD (P := Sum.elim (fun s : Int × MM => Sem g d YX1_query 53 [(1, x0), (0, x1), (1, x2), (1, x3), (0, s.1), (9, 0)] [] s.2 o) P) (fun s h => h) (fun s h => r0 s h) hx hP
theorem s_X1_query_39 {g : GG} {d : Nat} (hD : 215 ≤ d) {M : MM} {o : AV × MM} {P : (Int × MM) → Prop} (r0 : ∀ r : Int × MM, P r → o = ((0, r.1), r.2)) {z : Int × MM} (h : j_X1_query_39 M = some z) (hz : P z) : Sem g d YX1_query 39 [(9, 0), (9, 0), (9, 0), (9, 0), (9, 0), (9, 0)] [] M o := by
  delta j_X1_query_39 at h
  refine S_iconst dX1_query_39 rfl ?_
  obtain rfl := r0 _ (some_P (P := fun r => P r) h hz)
  exact P_ret dX1_query_40 rfl (Or.inl rfl)
theorem s_X1_query_0 {g : GG} {d : Nat} (hD : 215 ≤ d) {x0 x1 : Int} {M : MM} {o : AV × MM} {P : (Int × MM) → Prop} (r0 : ∀ r : Int × MM, P r → o = ((0, r.1), r.2)) {z : Int × MM} (h : f_X1_query x0 x1 M = some z) (hz : P z) : Sem g d YX1_query 0 [(1, x0), (0, x1), (9, 0), (9, 0), (9, 0), (9, 0)] [] M o := by
  delta f_X1_query at h
  refine S_aload_n (i := 0) dX1_query_0 rfl rfl ?_
  refine P_gfr FLX1_34 rfl dX1_query_1 h (fun v1 h => ?_)
  refine S_aload_n (i := 0) dX1_query_4 rfl rfl ?_
  refine P_gfr FLX1_13 rfl dX1_query_5 h (fun v2 h => ?_)
  refine S_aload_n (i := 0) dX1_query_8 rfl rfl ?_
  refine P_invVe 0 [] [(1, v2), (1, v1)] CVX1_take MLX1_123 dX1_query_9 rfl rfl rfl rfl rfl (by omega) h (fun r h => F_X1_take (by omega) h) (fun r1 h => ?_)
  refine P_invVm' [(1, v2), (0, r1.1)] [] CVX2_cut MLX1_228 dX1_query_12 rfl rfl rfl rfl (by omega) h (fun r h => F_X2_cut (by omega) h) (fun M1 h => ?_)
  refine S_aload_n (i := 0) dX1_query_15 rfl rfl ?_
  refine P_invVp 1 [] [] CVX1_free MLX1_167 dX1_query_16 rfl rfl rfl rfl rfl (by omega) h (fun r h => F_X1_free (by omega) h) (fun v3 h => ?_)
  refine S_astore_n (i := 2) dX1_query_19 rfl (Nat.le_of_ble_eq_true rfl) rfl rfl ?_
  change Sem g d YX1_query 20 [(1, x0), (0, x1), (1, v3), (9, 0), (9, 0), (9, 0)] [] M1 o
  refine S_aload_n (i := 0) dX1_query_20 rfl rfl ?_
  refine S_iload_n (i := 1) dX1_query_21 rfl rfl ?_
  refine P_invVp 0 [(0, x1)] [] CVX1_isLive MLX1_149 dX1_query_22 rfl rfl rfl rfl rfl (by omega) h (fun r h => F_X1_isLive (by omega) h) (fun v4 h => ?_)
  refine P_if_eq (tgt := 39) dX1_query_25 rfl h (fun h => ?_) (fun h => ?_)
  · refine S_weak (ls' := [(9, 0), (9, 0), (9, 0), (9, 0), (9, 0), (9, 0)]) ⟨Or.inl rfl, ⟨Or.inl rfl, ⟨Or.inl rfl, ⟨Or.inl rfl, ⟨Or.inl rfl, ⟨Or.inl rfl, trivial⟩⟩⟩⟩⟩⟩ ?_
    exact s_X1_query_39 hD r0 h hz
  · refine S_aload_n (i := 2) dX1_query_28 rfl rfl ?_
    refine P_ifnull (tgt := 39) dX1_query_29 rfl h (fun h => ?_) (fun h => ?_)
    · refine S_weak (ls' := [(9, 0), (9, 0), (9, 0), (9, 0), (9, 0), (9, 0)]) ⟨Or.inl rfl, ⟨Or.inl rfl, ⟨Or.inl rfl, ⟨Or.inl rfl, ⟨Or.inl rfl, ⟨Or.inl rfl, trivial⟩⟩⟩⟩⟩⟩ ?_
      exact s_X1_query_39 hD r0 h hz
    · refine S_aload_n (i := 0) dX1_query_32 rfl rfl ?_
      refine P_invVp 0 [] [] CVX1_areAsked MLX1_256 dX1_query_33 rfl rfl rfl rfl rfl (by omega) h (fun r h => F_X1_areAsked (by omega) h) (fun v5 h => ?_)
      refine P_if_ne (tgt := 41) dX1_query_36 rfl h (fun h => ?_) (fun h => ?_)
      · refine S_aload_n (i := 2) dX1_query_41 rfl rfl ?_
        refine P_invVe 1 [] [] CVX11_asking MLX1_260 dX1_query_42 rfl rfl rfl rfl rfl (by omega) h (fun r h => F_X11_asking (by omega) h) (fun r2 h => ?_)
        refine S_astore_n (i := 3) dX1_query_45 rfl (Nat.le_of_ble_eq_true rfl) rfl rfl ?_
        change Sem g d YX1_query 46 [(1, x0), (0, x1), (1, v3), (1, r2.1), (9, 0), (9, 0)] [] r2.2 o
        refine S_aload_n (i := 3) dX1_query_46 rfl rfl ?_
        refine P_invVm' [] [] CVX31_clear MLX1_264 dX1_query_47 rfl rfl rfl rfl (by omega) h (fun r h => F_X31_clear (by omega) h) (fun M2 h => ?_)
        refine S_iconst dX1_query_50 rfl ?_
        refine S_istore dX1_query_51 (Nat.le_of_ble_eq_true rfl) rfl rfl ?_
        change Sem g d YX1_query 53 [(1, x0), (0, x1), (1, v3), (1, r2.1), (0, 0), (9, 0)] [] M2 o
        exact sl_X1_query_53 hD r0 h hz
      · refine S_weak (ls' := [(9, 0), (9, 0), (9, 0), (9, 0), (9, 0), (9, 0)]) ⟨Or.inl rfl, ⟨Or.inl rfl, ⟨Or.inl rfl, ⟨Or.inl rfl, ⟨Or.inl rfl, ⟨Or.inl rfl, trivial⟩⟩⟩⟩⟩⟩ ?_
        exact s_X1_query_39 hD r0 h hz
theorem F_X1_query {g : GG} {d : Nat} (hD : 215 ≤ d) {x0 x1 : Int} {M : MM} {r : Int × MM} (h : f_X1_query x0 x1 M = some r) : Sem g d YX1_query 0 (ini YX1_query [(1, x0), (0, x1)]) [] M ((0, r.1), r.2) := by
  change Sem g d YX1_query 0 [(1, x0), (0, x1), (9, 0), (9, 0), (9, 0), (9, 0)] [] M ((0, r.1), r.2)
  exact s_X1_query_0 hD (P := fun x => x = r) (fun q e => by rw [e]) h rfl
/-! PeerSearch.isBusy()Z -/
theorem dX1_isBusy_0 : decode cX1_isBusy 0 = .ok (.aload_n 0, 1) := by decide +kernel
theorem dX1_isBusy_1 : decode cX1_isBusy 1 = .ok (.getfield 78, 3) := by decide +kernel
theorem dX1_isBusy_4 : decode cX1_isBusy 4 = .ok (.getfield 339, 3) := by decide +kernel
theorem dX1_isBusy_7 : decode cX1_isBusy 7 = .ok (.ifCond .gt 10, 3) := by decide +kernel
theorem dX1_isBusy_10 : decode cX1_isBusy 10 = .ok (.aload_n 0, 1) := by decide +kernel
theorem dX1_isBusy_11 : decode cX1_isBusy 11 = .ok (.invokevirtual 340, 3) := by decide +kernel
theorem dX1_isBusy_14 : decode cX1_isBusy 14 = .ok (.ifCond .le 7, 3) := by decide +kernel
theorem dX1_isBusy_17 : decode cX1_isBusy 17 = .ok (.iconst 1, 1) := by decide +kernel
theorem dX1_isBusy_18 : decode cX1_isBusy 18 = .ok (.goto 4, 3) := by decide +kernel
theorem dX1_isBusy_21 : decode cX1_isBusy 21 = .ok (.iconst 0, 1) := by decide +kernel
theorem dX1_isBusy_22 : decode cX1_isBusy 22 = .ok (.istore_n 1, 1) := by decide +kernel
theorem dX1_isBusy_23 : decode cX1_isBusy 23 = .ok (.iconst 0, 1) := by decide +kernel
theorem dX1_isBusy_24 : decode cX1_isBusy 24 = .ok (.istore_n 2, 1) := by decide +kernel
theorem dX1_isBusy_25 : decode cX1_isBusy 25 = .ok (.iload_n 2, 1) := by decide +kernel
theorem dX1_isBusy_26 : decode cX1_isBusy 26 = .ok (.aload_n 0, 1) := by decide +kernel
theorem dX1_isBusy_27 : decode cX1_isBusy 27 = .ok (.getfield 70, 3) := by decide +kernel
theorem dX1_isBusy_30 : decode cX1_isBusy 30 = .ok (.getfield 127, 3) := by decide +kernel
theorem dX1_isBusy_33 : decode cX1_isBusy 33 = .ok (.if_icmp .ge 37, 3) := by decide +kernel
theorem dX1_isBusy_36 : decode cX1_isBusy 36 = .ok (.iload_n 1, 1) := by decide +kernel
theorem dX1_isBusy_37 : decode cX1_isBusy 37 = .ok (.ifCond .ne 21, 3) := by decide +kernel
theorem dX1_isBusy_40 : decode cX1_isBusy 40 = .ok (.aload_n 0, 1) := by decide +kernel
theorem dX1_isBusy_41 : decode cX1_isBusy 41 = .ok (.getfield 70, 3) := by decide +kernel
theorem dX1_isBusy_44 : decode cX1_isBusy 44 = .ok (.getfield 114, 3) := by decide +kernel
theorem dX1_isBusy_47 : decode cX1_isBusy 47 = .ok (.iload_n 2, 1) := by decide +kernel
theorem dX1_isBusy_48 : decode cX1_isBusy 48 = .ok (.aaload, 1) := by decide +kernel
theorem dX1_isBusy_49 : decode cX1_isBusy 49 = .ok (.getfield 196, 3) := by decide +kernel
theorem dX1_isBusy_52 : decode cX1_isBusy 52 = .ok (.getfield 158, 3) := by decide +kernel
theorem dX1_isBusy_55 : decode cX1_isBusy 55 = .ok (.ifCond .eq 7, 3) := by decide +kernel
theorem dX1_isBusy_58 : decode cX1_isBusy 58 = .ok (.iconst 1, 1) := by decide +kernel
theorem dX1_isBusy_59 : decode cX1_isBusy 59 = .ok (.goto 4, 3) := by decide +kernel
theorem dX1_isBusy_62 : decode cX1_isBusy 62 = .ok (.iconst 0, 1) := by decide +kernel
theorem dX1_isBusy_63 : decode cX1_isBusy 63 = .ok (.istore_n 1, 1) := by decide +kernel
theorem dX1_isBusy_64 : decode cX1_isBusy 64 = .ok (.iinc 2 1, 3) := by decide +kernel
theorem dX1_isBusy_67 : decode cX1_isBusy 67 = .ok (.goto (-42), 3) := by decide +kernel
theorem dX1_isBusy_70 : decode cX1_isBusy 70 = .ok (.iload_n 1, 1) := by decide +kernel
theorem dX1_isBusy_71 : decode cX1_isBusy 71 = .ok (.ireturn, 1) := by decide +kernel
def j_X1_isBusy_63 (x0 x2 y0 : Int) (M : MM) : Option ((Int × Int) ⊕ (Int)) :=
  cnt (y0, x2 + 1)
def j_X1_isBusy_58 (x0 x2 : Int) (M : MM) : Option ((Int × Int) ⊕ (Int)) :=
  j_X1_isBusy_63 x0 x2 1 M
def b_X1_isBusy_25 (x0 x1 x2 : Int) (M : MM) : Option ((Int × Int) ⊕ (Int)) :=
  (gfr 1 0 x0 M).bind fun v1 =>
  (gfi 6 6 v1 M).bind fun v2 =>
  if w32 x2 < w32 v2 then
    if w32 x1 = 0 then
      (gfr 1 0 x0 M).bind fun v3 =>
      (gfr 6 5 v3 M).bind fun v4 =>
      (lar 7 v4 x2 M).bind fun v5 =>
      (gfr 17 19 v5 M).bind fun v6 =>
      (gfi 11 6 v6 M).bind fun v7 =>
      if w32 v7 = 0 then
        j_X1_isBusy_63 x0 x2 0 M
      else
        j_X1_isBusy_58 x0 x2 M
    else
      j_X1_isBusy_58 x0 x2 M
  else
    xit (bz x1 (some x1))
def l_X1_isBusy_25 (x0 x1 x2 : Int) (M : MM) : Option (Int) := lpN (fun s : Int × Int => b_X1_isBusy_25 x0 s.1 s.2 M) FU (x1, x2)
def j_X1_isBusy_22 (x0 y0 : Int) (M : MM) : Option (Int) :=
  l_X1_isBusy_25 x0 y0 0 M
def j_X1_isBusy_17 (x0 : Int) (M : MM) : Option (Int) :=
  j_X1_isBusy_22 x0 1 M
def f_X1_isBusy (x0 : Int) (M : MM) : Option (Int) :=
  (gfr 1 1 x0 M).bind fun v1 =>
  (gfi 7 2 v1 M).bind fun v2 =>
  if 0 < w32 v2 then
    j_X1_isBusy_17 x0 M
  else
    ck 1 x0 M <| (f_X1_going x0 M).bind fun v3 =>
    if 0 < w32 v3 then
      j_X1_isBusy_17 x0 M
    else
      j_X1_isBusy_22 x0 0 M
theorem s_X1_isBusy_63 {g : GG} {d : Nat} (hD : 1 ≤ d) {x0 x2 y0 : Int} {M : MM} {o : AV × MM} {P : ((Int × Int) ⊕ (Int)) → Prop} (c0 : ∀ s : Int × Int, P (.inl s) → Sem g d YX1_isBusy 25 [(1, x0), (0, s.1), (0, s.2)] [] M o) (r0 : ∀ r : Int, P (.inr r) → o = ((0, r), M)) {z : (Int × Int) ⊕ (Int)} (h : j_X1_isBusy_63 x0 x2 y0 M = some z) (hz : P z) : Sem g d YX1_isBusy 63 [(1, x0), (9, 0), (0, x2)] [(0, y0)] M o := by
  delta j_X1_isBusy_63 at h
  refine S_istore_n (i := 1) dX1_isBusy_63 rfl (Nat.le_of_ble_eq_true rfl) rfl rfl ?_
  change Sem g d YX1_isBusy 64 [(1, x0), (0, y0), (0, x2)] [] M o
  refine S_iinc dX1_isBusy_64 rfl rfl rfl ?_
  change Sem g d YX1_isBusy 67 [(1, x0), (0, y0), (0, x2 + 1)] [] M o
  refine S_goto (tgt := 25) dX1_isBusy_67 rfl ?_
  exact c0 (y0, x2 + 1) (some_P (P := fun r => P r) h hz)
theorem s_X1_isBusy_58 {g : GG} {d : Nat} (hD : 1 ≤ d) {x0 x2 : Int} {M : MM} {o : AV × MM} {P : ((Int × Int) ⊕ (Int)) → Prop} (c0 : ∀ s : Int × Int, P (.inl s) → Sem g d YX1_isBusy 25 [(1, x0), (0, s.1), (0, s.2)] [] M o) (r0 : ∀ r : Int, P (.inr r) → o = ((0, r), M)) {z : (Int × Int) ⊕ (Int)} (h : j_X1_isBusy_58 x0 x2 M = some z) (hz : P z) : Sem g d YX1_isBusy 58 [(1, x0), (9, 0), (0, x2)] [] M o := by
  delta j_X1_isBusy_58 at h
  refine S_iconst dX1_isBusy_58 rfl ?_
  refine S_goto (tgt := 63) dX1_isBusy_59 rfl ?_
  exact s_X1_isBusy_63 hD c0 r0 h hz
theorem s_X1_isBusy_25 {g : GG} {d : Nat} (hD : 1 ≤ d) {x0 x1 x2 : Int} {M : MM} {o : AV × MM} {P : ((Int × Int) ⊕ (Int)) → Prop} (c0 : ∀ s : Int × Int, P (.inl s) → Sem g d YX1_isBusy 25 [(1, x0), (0, s.1), (0, s.2)] [] M o) (r0 : ∀ r : Int, P (.inr r) → o = ((0, r), M)) {z : (Int × Int) ⊕ (Int)} (h : b_X1_isBusy_25 x0 x1 x2 M = some z) (hz : P z) : Sem g d YX1_isBusy 25 [(1, x0), (0, x1), (0, x2)] [] M o := by
  delta b_X1_isBusy_25 at h
  refine S_iload_n (i := 2) dX1_isBusy_25 rfl rfl ?_
  refine S_aload_n (i := 0) dX1_isBusy_26 rfl rfl ?_
  refine P_gfr FLX1_70 rfl dX1_isBusy_27 h (fun v1 h => ?_)
  refine P_gfi FLX1_127 rfl dX1_isBusy_30 h (fun v2 h => ?_)
  refine P_icmp_ge (tgt := 70) dX1_isBusy_33 rfl h (fun h => ?_) (fun h => ?_)
  · obtain ⟨z0, h, hz⟩ := xit_some' (P := fun r => P r) h hz
    refine S_iload_n (i := 1) dX1_isBusy_70 rfl rfl ?_
    obtain ⟨hb, h⟩ := bz_some h
    obtain rfl := r0 _ (some_P (P := fun r => P (.inr r)) h hz)
    exact P_ret dX1_isBusy_71 rfl (Or.inr ⟨rfl, hb⟩)
  · refine S_iload_n (i := 1) dX1_isBusy_36 rfl rfl ?_
    refine P_if_ne (tgt := 58) dX1_isBusy_37 rfl h (fun h => ?_) (fun h => ?_)
    · refine S_weak (ls' := [(1, x0), (9, 0), (0, x2)]) ⟨Or.inr rfl, ⟨Or.inl rfl, ⟨Or.inr rfl, trivial⟩⟩⟩ ?_
      exact s_X1_isBusy_58 hD c0 r0 h hz
    · refine S_aload_n (i := 0) dX1_isBusy_40 rfl rfl ?_
      refine P_gfr FLX1_70 rfl dX1_isBusy_41 h (fun v3 h => ?_)
      refine P_gfr FLX1_114 rfl dX1_isBusy_44 h (fun v4 h => ?_)
      refine S_iload_n (i := 2) dX1_isBusy_47 rfl rfl ?_
      refine P_lar (t := 7) ⟨by decide, by decide⟩ dX1_isBusy_48 h (fun v5 h => ?_)
      refine P_gfr FLX1_196 rfl dX1_isBusy_49 h (fun v6 h => ?_)
      refine P_gfi FLX1_158 rfl dX1_isBusy_52 h (fun v7 h => ?_)
      refine P_if_eq (tgt := 62) dX1_isBusy_55 rfl h (fun h => ?_) (fun h => ?_)
      · refine S_iconst dX1_isBusy_62 rfl ?_
        refine S_weak (ls' := [(1, x0), (9, 0), (0, x2)]) ⟨Or.inr rfl, ⟨Or.inl rfl, ⟨Or.inr rfl, trivial⟩⟩⟩ ?_
        exact s_X1_isBusy_63 hD c0 r0 h hz
      · refine S_weak (ls' := [(1, x0), (9, 0), (0, x2)]) ⟨Or.inr rfl, ⟨Or.inl rfl, ⟨Or.inr rfl, trivial⟩⟩⟩ ?_
        exact s_X1_isBusy_58 hD c0 r0 h hz
theorem sl_X1_isBusy_25 {g : GG} {d : Nat} (hD : 1 ≤ d) {x0 x1 x2 : Int} {M : MM} {o : AV × MM} {P : (Int) → Prop} (r0 : ∀ r : Int, P r → o = ((0, r), M)) {z : Int} (h : l_X1_isBusy_25 x0 x1 x2 M = some z) (hz : P z) : Sem g d YX1_isBusy 25 [(1, x0), (0, x1), (0, x2)] [] M o := by
  refine lp_sound (S := fun s : Int × Int => Sem g d YX1_isBusy 25 [(1, x0), (0, s.1), (0, s.2)] [] M o) (P := P) ?_ FU (x1, x2) z h hz
  intro s x hx hP
  exact s_X1_isBusy_25 hD (P := Sum.elim (fun s : Int × Int => Sem g d YX1_isBusy 25 [(1, x0), (0, s.1), (0, s.2)] [] M o) P) (fun s h => h) (fun s h => r0 s h) hx hP
theorem s_X1_isBusy_22 {g : GG} {d : Nat} (hD : 1 ≤ d) {x0 y0 : Int} {M : MM} {o : AV × MM} {P : (Int) → Prop} (r0 : ∀ r : Int, P r → o = ((0, r), M)) {z : Int} (h : j_X1_isBusy_22 x0 y0 M = some z) (hz : P z) : Sem g d YX1_isBusy 22 [(1, x0), (9, 0), (9, 0)] [(0, y0)] M o := by
  delta j_X1_isBusy_22 at h
  refine S_istore_n (i := 1) dX1_isBusy_22 rfl (Nat.le_of_ble_eq_true rfl) rfl rfl ?_
  change Sem g d YX1_isBusy 23 [(1, x0), (0, y0), (9, 0)] [] M o
  refine S_iconst dX1_isBusy_23 rfl ?_
  refine S_istore_n (i := 2) dX1_isBusy_24 rfl (Nat.le_of_ble_eq_true rfl) rfl rfl ?_
  change Sem g d YX1_isBusy 25 [(1, x0), (0, y0), (0, 0)] [] M o
  exact sl_X1_isBusy_25 hD r0 h hz
theorem s_X1_isBusy_17 {g : GG} {d : Nat} (hD : 1 ≤ d) {x0 : Int} {M : MM} {o : AV × MM} {P : (Int) → Prop} (r0 : ∀ r : Int, P r → o = ((0, r), M)) {z : Int} (h : j_X1_isBusy_17 x0 M = some z) (hz : P z) : Sem g d YX1_isBusy 17 [(1, x0), (9, 0), (9, 0)] [] M o := by
  delta j_X1_isBusy_17 at h
  refine S_iconst dX1_isBusy_17 rfl ?_
  refine S_goto (tgt := 22) dX1_isBusy_18 rfl ?_
  exact s_X1_isBusy_22 hD r0 h hz
theorem s_X1_isBusy_0 {g : GG} {d : Nat} (hD : 1 ≤ d) {x0 : Int} {M : MM} {o : AV × MM} {P : (Int) → Prop} (r0 : ∀ r : Int, P r → o = ((0, r), M)) {z : Int} (h : f_X1_isBusy x0 M = some z) (hz : P z) : Sem g d YX1_isBusy 0 [(1, x0), (9, 0), (9, 0)] [] M o := by
  delta f_X1_isBusy at h
  refine S_aload_n (i := 0) dX1_isBusy_0 rfl rfl ?_
  refine P_gfr FLX1_78 rfl dX1_isBusy_1 h (fun v1 h => ?_)
  refine P_gfi FLX1_339 rfl dX1_isBusy_4 h (fun v2 h => ?_)
  refine P_if_gt (tgt := 17) dX1_isBusy_7 rfl h (fun h => ?_) (fun h => ?_)
  · exact s_X1_isBusy_17 hD r0 h hz
  · refine S_aload_n (i := 0) dX1_isBusy_10 rfl rfl ?_
    refine P_invVp 0 [] [] CVX1_going MLX1_340 dX1_isBusy_11 rfl rfl rfl rfl rfl (by omega) h (fun r h => F_X1_going (by omega) h) (fun v3 h => ?_)
    refine P_if_le (tgt := 21) dX1_isBusy_14 rfl h (fun h => ?_) (fun h => ?_)
    · refine S_iconst dX1_isBusy_21 rfl ?_
      exact s_X1_isBusy_22 hD r0 h hz
    · exact s_X1_isBusy_17 hD r0 h hz
theorem F_X1_isBusy {g : GG} {d : Nat} (hD : 1 ≤ d) {x0 : Int} {M : MM} {r : Int} (h : f_X1_isBusy x0 M = some r) : Sem g d YX1_isBusy 0 (ini YX1_isBusy [(1, x0)]) [] M ((0, r), M) := by
  change Sem g d YX1_isBusy 0 [(1, x0), (9, 0), (9, 0)] [] M ((0, r), M)
  exact s_X1_isBusy_0 hD (P := fun x => x = r) (fun q e => by rw [e]) h rfl
/-! PeerSearch$Peer.remove(I)LPeerSearch$Request; -/
theorem dX17_remove_0 : decode cX17_remove 0 = .ok (.aload_n 0, 1) := by decide +kernel
theorem dX17_remove_1 : decode cX17_remove 1 = .ok (.getfield 34, 3) := by decide +kernel
theorem dX17_remove_4 : decode cX17_remove 4 = .ok (.iload_n 1, 1) := by decide +kernel
theorem dX17_remove_5 : decode cX17_remove 5 = .ok (.aaload, 1) := by decide +kernel
theorem dX17_remove_6 : decode cX17_remove 6 = .ok (.astore_n 2, 1) := by decide +kernel
theorem dX17_remove_7 : decode cX17_remove 7 = .ok (.aload_n 0, 1) := by decide +kernel
theorem dX17_remove_8 : decode cX17_remove 8 = .ok (.dup, 1) := by decide +kernel
theorem dX17_remove_9 : decode cX17_remove 9 = .ok (.getfield 101, 3) := by decide +kernel
theorem dX17_remove_12 : decode cX17_remove 12 = .ok (.iconst 1, 1) := by decide +kernel
theorem dX17_remove_13 : decode cX17_remove 13 = .ok (.isub, 1) := by decide +kernel
theorem dX17_remove_14 : decode cX17_remove 14 = .ok (.putfield 101, 3) := by decide +kernel
theorem dX17_remove_17 : decode cX17_remove 17 = .ok (.iload_n 1, 1) := by decide +kernel
theorem dX17_remove_18 : decode cX17_remove 18 = .ok (.istore_n 3, 1) := by decide +kernel
theorem dX17_remove_19 : decode cX17_remove 19 = .ok (.iload_n 3, 1) := by decide +kernel
theorem dX17_remove_20 : decode cX17_remove 20 = .ok (.aload_n 0, 1) := by decide +kernel
theorem dX17_remove_21 : decode cX17_remove 21 = .ok (.getfield 101, 3) := by decide +kernel
theorem dX17_remove_24 : decode cX17_remove 24 = .ok (.if_icmp .ge 23, 3) := by decide +kernel
theorem dX17_remove_27 : decode cX17_remove 27 = .ok (.aload_n 0, 1) := by decide +kernel
theorem dX17_remove_28 : decode cX17_remove 28 = .ok (.getfield 34, 3) := by decide +kernel
theorem dX17_remove_31 : decode cX17_remove 31 = .ok (.iload_n 3, 1) := by decide +kernel
theorem dX17_remove_32 : decode cX17_remove 32 = .ok (.aload_n 0, 1) := by decide +kernel
theorem dX17_remove_33 : decode cX17_remove 33 = .ok (.getfield 34, 3) := by decide +kernel
theorem dX17_remove_36 : decode cX17_remove 36 = .ok (.iload_n 3, 1) := by decide +kernel
theorem dX17_remove_37 : decode cX17_remove 37 = .ok (.iconst 1, 1) := by decide +kernel
theorem dX17_remove_38 : decode cX17_remove 38 = .ok (.iadd, 1) := by decide +kernel
theorem dX17_remove_39 : decode cX17_remove 39 = .ok (.aaload, 1) := by decide +kernel
theorem dX17_remove_40 : decode cX17_remove 40 = .ok (.aastore, 1) := by decide +kernel
theorem dX17_remove_41 : decode cX17_remove 41 = .ok (.iinc 3 1, 3) := by decide +kernel
theorem dX17_remove_44 : decode cX17_remove 44 = .ok (.goto (-25), 3) := by decide +kernel
theorem dX17_remove_47 : decode cX17_remove 47 = .ok (.aload_n 0, 1) := by decide +kernel
theorem dX17_remove_48 : decode cX17_remove 48 = .ok (.getfield 34, 3) := by decide +kernel
theorem dX17_remove_51 : decode cX17_remove 51 = .ok (.aload_n 0, 1) := by decide +kernel
theorem dX17_remove_52 : decode cX17_remove 52 = .ok (.getfield 101, 3) := by decide +kernel
theorem dX17_remove_55 : decode cX17_remove 55 = .ok (.aload_n 2, 1) := by decide +kernel
theorem dX17_remove_56 : decode cX17_remove 56 = .ok (.aastore, 1) := by decide +kernel
theorem dX17_remove_57 : decode cX17_remove 57 = .ok (.aload_n 2, 1) := by decide +kernel
theorem dX17_remove_58 : decode cX17_remove 58 = .ok (.getfield 162, 3) := by decide +kernel
theorem dX17_remove_61 : decode cX17_remove 61 = .ok (.ifnull 11, 3) := by decide +kernel
theorem dX17_remove_64 : decode cX17_remove 64 = .ok (.aload_n 2, 1) := by decide +kernel
theorem dX17_remove_65 : decode cX17_remove 65 = .ok (.getfield 162, 3) := by decide +kernel
theorem dX17_remove_68 : decode cX17_remove 68 = .ok (.iconst 0, 1) := by decide +kernel
theorem dX17_remove_69 : decode cX17_remove 69 = .ok (.putfield 208, 3) := by decide +kernel
theorem dX17_remove_72 : decode cX17_remove 72 = .ok (.aload_n 2, 1) := by decide +kernel
theorem dX17_remove_73 : decode cX17_remove 73 = .ok (.areturn, 1) := by decide +kernel
def j_X17_remove_72 (x2 : Int) (M : MM) : Option (Int × MM) :=
  some (x2, M)
def j_X17_remove_47 (x0 x2 : Int) (M : MM) : Option (Int × MM) :=
  (gfr 17 8 x0 M).bind fun v1 =>
  (gfi 17 9 x0 M).bind fun v2 =>
  (sar 11 v1 v2 x2 M).bind fun M1 =>
  (gfr 24 10 x2 M1).bind fun v3 =>
  if v3 = -1 then
    j_X17_remove_72 x2 M1
  else
    (gfr 24 10 x2 M1).bind fun v4 =>
    (pfz 21 2 v4 0 M1).bind fun M2 =>
    j_X17_remove_72 x2 M2
def b_X17_remove_19 (x0 x2 x3 : Int) (M : MM) : Option ((Int × MM) ⊕ (Int × MM)) :=
  (gfi 17 9 x0 M).bind fun v1 =>
  if w32 x3 < w32 v1 then
    (gfr 17 8 x0 M).bind fun v2 =>
    (gfr 17 8 x0 M).bind fun v3 =>
    (lar 11 v3 (x3 + 1) M).bind fun v4 =>
    (sar 11 v2 x3 v4 M).bind fun M1 =>
    cnt (x3 + 1, M1)
  else
    xit (j_X17_remove_47 x0 x2 M)
def l_X17_remove_19 (x0 x2 x3 : Int) (M : MM) : Option (Int × MM) := lpN (fun s : Int × MM => b_X17_remove_19 x0 x2 s.1 s.2) FU (x3, M)
def f_X17_remove (x0 x1 : Int) (M : MM) : Option (Int × MM) :=
  (gfr 17 8 x0 M).bind fun v1 =>
  (lar 11 v1 x1 M).bind fun v2 =>
  (gfi 17 9 x0 M).bind fun v3 =>
  (pfi 17 9 x0 (v3 - 1) M).bind fun M1 =>
  l_X17_remove_19 x0 v2 x1 M1
theorem s_X17_remove_72 {g : GG} {d : Nat} (hD : 0 ≤ d) {x2 : Int} {M : MM} {o : AV × MM} {P : (Int × MM) → Prop} (r0 : ∀ r : Int × MM, P r → o = ((1, r.1), r.2)) {z : Int × MM} (h : j_X17_remove_72 x2 M = some z) (hz : P z) : Sem g d YX17_remove 72 [(9, 0), (9, 0), (1, x2), (9, 0)] [] M o := by
  delta j_X17_remove_72 at h
  refine S_aload_n (i := 2) dX17_remove_72 rfl rfl ?_
  obtain rfl := r0 _ (some_P (P := fun r => P r) h hz)
  exact S_areturn dX17_remove_73 ⟨_, rfl, Or.inl ⟨_, rfl⟩⟩
theorem s_X17_remove_47 {g : GG} {d : Nat} (hD : 0 ≤ d) {x0 x2 : Int} {M : MM} {o : AV × MM} {P : (Int × MM) → Prop} (r0 : ∀ r : Int × MM, P r → o = ((1, r.1), r.2)) {z : Int × MM} (h : j_X17_remove_47 x0 x2 M = some z) (hz : P z) : Sem g d YX17_remove 47 [(1, x0), (9, 0), (1, x2), (9, 0)] [] M o := by
  delta j_X17_remove_47 at h
  refine S_aload_n (i := 0) dX17_remove_47 rfl rfl ?_
  refine P_gfr FLX17_34 rfl dX17_remove_48 h (fun v1 h => ?_)
  refine S_aload_n (i := 0) dX17_remove_51 rfl rfl ?_
  refine P_gfi FLX17_101 rfl dX17_remove_52 h (fun v2 h => ?_)
  refine S_aload_n (i := 2) dX17_remove_55 rfl rfl ?_
  refine P_sar (t := 11) ⟨by decide, by decide⟩ dX17_remove_56 h (fun M1 h => ?_)
  refine S_aload_n (i := 2) dX17_remove_57 rfl rfl ?_
  refine P_gfr FLX17_162 rfl dX17_remove_58 h (fun v3 h => ?_)
  refine P_ifnull (tgt := 72) dX17_remove_61 rfl h (fun h => ?_) (fun h => ?_)
  · refine S_weak (ls' := [(9, 0), (9, 0), (1, x2), (9, 0)]) ⟨Or.inl rfl, ⟨Or.inl rfl, ⟨Or.inr rfl, ⟨Or.inl rfl, trivial⟩⟩⟩⟩ ?_
    exact s_X17_remove_72 hD r0 h hz
  · refine S_aload_n (i := 2) dX17_remove_64 rfl rfl ?_
    refine P_gfr FLX17_162 rfl dX17_remove_65 h (fun v4 h => ?_)
    refine S_iconst dX17_remove_68 rfl ?_
    refine P_pfz FLX17_208 FPX17_208 rfl dX17_remove_69 h (fun M2 h => ?_)
    refine S_weak (ls' := [(9, 0), (9, 0), (1, x2), (9, 0)]) ⟨Or.inl rfl, ⟨Or.inl rfl, ⟨Or.inr rfl, ⟨Or.inl rfl, trivial⟩⟩⟩⟩ ?_
    exact s_X17_remove_72 hD r0 h hz
theorem s_X17_remove_19 {g : GG} {d : Nat} (hD : 0 ≤ d) {x0 x2 x3 : Int} {M : MM} {o : AV × MM} {P : ((Int × MM) ⊕ (Int × MM)) → Prop} (c0 : ∀ s : Int × MM, P (.inl s) → Sem g d YX17_remove 19 [(1, x0), (9, 0), (1, x2), (0, s.1)] [] s.2 o) (r0 : ∀ r : Int × MM, P (.inr r) → o = ((1, r.1), r.2)) {z : (Int × MM) ⊕ (Int × MM)} (h : b_X17_remove_19 x0 x2 x3 M = some z) (hz : P z) : Sem g d YX17_remove 19 [(1, x0), (9, 0), (1, x2), (0, x3)] [] M o := by
  delta b_X17_remove_19 at h
  refine S_iload_n (i := 3) dX17_remove_19 rfl rfl ?_
  refine S_aload_n (i := 0) dX17_remove_20 rfl rfl ?_
  refine P_gfi FLX17_101 rfl dX17_remove_21 h (fun v1 h => ?_)
  refine P_icmp_ge (tgt := 47) dX17_remove_24 rfl h (fun h => ?_) (fun h => ?_)
  · refine S_weak (ls' := [(1, x0), (9, 0), (1, x2), (9, 0)]) ⟨Or.inr rfl, ⟨Or.inl rfl, ⟨Or.inr rfl, ⟨Or.inl rfl, trivial⟩⟩⟩⟩ ?_
    obtain ⟨z0, h, hz⟩ := xit_some' (P := fun r => P r) h hz
    exact s_X17_remove_47 hD (P := fun r => P (.inr r)) r0 h hz
  · refine S_aload_n (i := 0) dX17_remove_27 rfl rfl ?_
    refine P_gfr FLX17_34 rfl dX17_remove_28 h (fun v2 h => ?_)
    refine S_iload_n (i := 3) dX17_remove_31 rfl rfl ?_
    refine S_aload_n (i := 0) dX17_remove_32 rfl rfl ?_
    refine P_gfr FLX17_34 rfl dX17_remove_33 h (fun v3 h => ?_)
    refine S_iload_n (i := 3) dX17_remove_36 rfl rfl ?_
    refine S_iconst dX17_remove_37 rfl ?_
    refine S_iadd dX17_remove_38 ?_
    refine P_lar (t := 11) ⟨by decide, by decide⟩ dX17_remove_39 h (fun v4 h => ?_)
    refine P_sar (t := 11) ⟨by decide, by decide⟩ dX17_remove_40 h (fun M1 h => ?_)
    refine S_iinc dX17_remove_41 rfl rfl rfl ?_
    change Sem g d YX17_remove 44 [(1, x0), (9, 0), (1, x2), (0, x3 + 1)] [] M1 o
    refine S_goto (tgt := 19) dX17_remove_44 rfl ?_
    exact c0 (x3 + 1, M1) (some_P (P := fun r => P r) h hz)
theorem sl_X17_remove_19 {g : GG} {d : Nat} (hD : 0 ≤ d) {x0 x2 x3 : Int} {M : MM} {o : AV × MM} {P : (Int × MM) → Prop} (r0 : ∀ r : Int × MM, P r → o = ((1, r.1), r.2)) {z : Int × MM} (h : l_X17_remove_19 x0 x2 x3 M = some z) (hz : P z) : Sem g d YX17_remove 19 [(1, x0), (9, 0), (1, x2), (0, x3)] [] M o := by
  refine lp_sound (S := fun s : Int × MM => Sem g d YX17_remove 19 [(1, x0), (9, 0), (1, x2), (0, s.1)] [] s.2 o) (P := P) ?_ FU (x3, M) z h hz
  intro s x hx hP
  exact s_X17_remove_19 hD (P := Sum.elim (fun s : Int × MM => Sem g d YX17_remove 19 [(1, x0), (9, 0), (1, x2), (0, s.1)] [] s.2 o) P) (fun s h => h) (fun s h => r0 s h) hx hP
theorem s_X17_remove_0 {g : GG} {d : Nat} (hD : 0 ≤ d) {x0 x1 : Int} {M : MM} {o : AV × MM} {P : (Int × MM) → Prop} (r0 : ∀ r : Int × MM, P r → o = ((1, r.1), r.2)) {z : Int × MM} (h : f_X17_remove x0 x1 M = some z) (hz : P z) : Sem g d YX17_remove 0 [(1, x0), (0, x1), (9, 0), (9, 0)] [] M o := by
  delta f_X17_remove at h
  refine S_aload_n (i := 0) dX17_remove_0 rfl rfl ?_
  refine P_gfr FLX17_34 rfl dX17_remove_1 h (fun v1 h => ?_)
  refine S_iload_n (i := 1) dX17_remove_4 rfl rfl ?_
  refine P_lar (t := 11) ⟨by decide, by decide⟩ dX17_remove_5 h (fun v2 h => ?_)
  refine S_astore_n (i := 2) dX17_remove_6 rfl (Nat.le_of_ble_eq_true rfl) rfl rfl ?_
  change Sem g d YX17_remove 7 [(1, x0), (0, x1), (1, v2), (9, 0)] [] M o
  refine S_aload_n (i := 0) dX17_remove_7 rfl rfl ?_
  refine S_dup dX17_remove_8 (Nat.le_of_ble_eq_true rfl) ?_
  refine P_gfi FLX17_101 rfl dX17_remove_9 h (fun v3 h => ?_)
  refine S_iconst dX17_remove_12 rfl ?_
  refine S_isub dX17_remove_13 ?_
  refine P_pfi FLX17_101 FPX17_101 rfl dX17_remove_14 h (fun M1 h => ?_)
  refine S_iload_n (i := 1) dX17_remove_17 rfl rfl ?_
  refine S_istore_n (i := 3) dX17_remove_18 rfl (Nat.le_of_ble_eq_true rfl) rfl rfl ?_
  change Sem g d YX17_remove 19 [(1, x0), (0, x1), (1, v2), (0, x1)] [] M1 o
  refine S_weak (ls' := [(1, x0), (9, 0), (1, v2), (0, x1)]) ⟨Or.inr rfl, ⟨Or.inl rfl, ⟨Or.inr rfl, ⟨Or.inr rfl, trivial⟩⟩⟩⟩ ?_
  exact sl_X17_remove_19 hD r0 h hz
theorem F_X17_remove {g : GG} {d : Nat} (hD : 0 ≤ d) {x0 x1 : Int} {M : MM} {r : Int × MM} (h : f_X17_remove x0 x1 M = some r) : Sem g d YX17_remove 0 (ini YX17_remove [(1, x0), (0, x1)]) [] M ((1, r.1), r.2) := by
  change Sem g d YX17_remove 0 [(1, x0), (0, x1), (9, 0), (9, 0)] [] M ((1, r.1), r.2)
  exact s_X17_remove_0 hD (P := fun x => x = r) (fun q e => by rw [e]) h rfl
/-! PeerSearch$Table.lose(LPeerSearch$Key;I)V -/
theorem dX20_lose_0 : decode cX20_lose 0 = .ok (.aload_n 0, 1) := by decide +kernel
theorem dX20_lose_1 : decode cX20_lose 1 = .ok (.getfield 19, 3) := by decide +kernel
theorem dX20_lose_4 : decode cX20_lose 4 = .ok (.aload_n 1, 1) := by decide +kernel
theorem dX20_lose_5 : decode cX20_lose 5 = .ok (.invokevirtual 83, 3) := by decide +kernel
theorem dX20_lose_8 : decode cX20_lose 8 = .ok (.istore_n 3, 1) := by decide +kernel
theorem dX20_lose_9 : decode cX20_lose 9 = .ok (.iload_n 3, 1) := by decide +kernel
theorem dX20_lose_10 : decode cX20_lose 10 = .ok (.sipush 160, 3) := by decide +kernel
theorem dX20_lose_13 : decode cX20_lose 13 = .ok (.if_icmp .ne 4, 3) := by decide +kernel
theorem dX20_lose_16 : decode cX20_lose 16 = .ok (.return_, 1) := by decide +kernel
theorem dX20_lose_17 : decode cX20_lose 17 = .ok (.aload_n 0, 1) := by decide +kernel
theorem dX20_lose_18 : decode cX20_lose 18 = .ok (.iload_n 3, 1) := by decide +kernel
theorem dX20_lose_19 : decode cX20_lose 19 = .ok (.invokevirtual 90, 3) := by decide +kernel
theorem dX20_lose_22 : decode cX20_lose 22 = .ok (.astore 4, 2) := by decide +kernel
theorem dX20_lose_24 : decode cX20_lose 24 = .ok (.aload 4, 2) := by decide +kernel
theorem dX20_lose_26 : decode cX20_lose 26 = .ok (.getfield 59, 3) := by decide +kernel
theorem dX20_lose_29 : decode cX20_lose 29 = .ok (.aload_n 1, 1) := by decide +kernel
theorem dX20_lose_30 : decode cX20_lose 30 = .ok (.invokevirtual 94, 3) := by decide +kernel
theorem dX20_lose_33 : decode cX20_lose 33 = .ok (.istore 5, 2) := by decide +kernel
theorem dX20_lose_35 : decode cX20_lose 35 = .ok (.iload 5, 2) := by decide +kernel
theorem dX20_lose_37 : decode cX20_lose 37 = .ok (.iconst (-1), 1) := by decide +kernel
theorem dX20_lose_38 : decode cX20_lose 38 = .ok (.if_icmp .eq 77, 3) := by decide +kernel
theorem dX20_lose_41 : decode cX20_lose 41 = .ok (.aload 4, 2) := by decide +kernel
theorem dX20_lose_43 : decode cX20_lose 43 = .ok (.getfield 59, 3) := by decide +kernel
theorem dX20_lose_46 : decode cX20_lose 46 = .ok (.getfield 74, 3) := by decide +kernel
theorem dX20_lose_49 : decode cX20_lose 49 = .ok (.iload 5, 2) := by decide +kernel
theorem dX20_lose_51 : decode cX20_lose 51 = .ok (.aaload, 1) := by decide +kernel
theorem dX20_lose_52 : decode cX20_lose 52 = .ok (.getfield 97, 3) := by decide +kernel
theorem dX20_lose_55 : decode cX20_lose 55 = .ok (.iload_n 2, 1) := by decide +kernel
theorem dX20_lose_56 : decode cX20_lose 56 = .ok (.if_icmp .eq 4, 3) := by decide +kernel
theorem dX20_lose_59 : decode cX20_lose 59 = .ok (.return_, 1) := by decide +kernel
theorem dX20_lose_60 : decode cX20_lose 60 = .ok (.aload_n 0, 1) := by decide +kernel
theorem dX20_lose_61 : decode cX20_lose 61 = .ok (.getfield 27, 3) := by decide +kernel
theorem dX20_lose_64 : decode cX20_lose 64 = .ok (.aload 4, 2) := by decide +kernel
theorem dX20_lose_66 : decode cX20_lose 66 = .ok (.getfield 59, 3) := by decide +kernel
theorem dX20_lose_69 : decode cX20_lose 69 = .ok (.iload 5, 2) := by decide +kernel
theorem dX20_lose_71 : decode cX20_lose 71 = .ok (.invokevirtual 49, 3) := by decide +kernel
theorem dX20_lose_74 : decode cX20_lose 74 = .ok (.invokevirtual 53, 3) := by decide +kernel
theorem dX20_lose_77 : decode cX20_lose 77 = .ok (.aload 4, 2) := by decide +kernel
theorem dX20_lose_79 : decode cX20_lose 79 = .ok (.getfield 67, 3) := by decide +kernel
theorem dX20_lose_82 : decode cX20_lose 82 = .ok (.getfield 44, 3) := by decide +kernel
theorem dX20_lose_85 : decode cX20_lose 85 = .ok (.ifCond .le 29, 3) := by decide +kernel
theorem dX20_lose_88 : decode cX20_lose 88 = .ok (.aload 4, 2) := by decide +kernel
theorem dX20_lose_90 : decode cX20_lose 90 = .ok (.getfield 59, 3) := by decide +kernel
theorem dX20_lose_93 : decode cX20_lose 93 = .ok (.aload 4, 2) := by decide +kernel
theorem dX20_lose_95 : decode cX20_lose 95 = .ok (.getfield 67, 3) := by decide +kernel
theorem dX20_lose_98 : decode cX20_lose 98 = .ok (.aload 4, 2) := by decide +kernel
theorem dX20_lose_100 : decode cX20_lose 100 = .ok (.getfield 67, 3) := by decide +kernel
theorem dX20_lose_103 : decode cX20_lose 103 = .ok (.getfield 44, 3) := by decide +kernel
theorem dX20_lose_106 : decode cX20_lose 106 = .ok (.iconst 1, 1) := by decide +kernel
theorem dX20_lose_107 : decode cX20_lose 107 = .ok (.isub, 1) := by decide +kernel
theorem dX20_lose_108 : decode cX20_lose 108 = .ok (.invokevirtual 49, 3) := by decide +kernel
theorem dX20_lose_111 : decode cX20_lose 111 = .ok (.invokevirtual 87, 3) := by decide +kernel
theorem dX20_lose_114 : decode cX20_lose 114 = .ok (.return_, 1) := by decide +kernel
theorem dX20_lose_115 : decode cX20_lose 115 = .ok (.aload 4, 2) := by decide +kernel
theorem dX20_lose_117 : decode cX20_lose 117 = .ok (.getfield 67, 3) := by decide +kernel
theorem dX20_lose_120 : decode cX20_lose 120 = .ok (.aload_n 1, 1) := by decide +kernel
theorem dX20_lose_121 : decode cX20_lose 121 = .ok (.invokevirtual 94, 3) := by decide +kernel
theorem dX20_lose_124 : decode cX20_lose 124 = .ok (.istore 6, 2) := by decide +kernel
theorem dX20_lose_126 : decode cX20_lose 126 = .ok (.iload 6, 2) := by decide +kernel
theorem dX20_lose_128 : decode cX20_lose 128 = .ok (.iconst (-1), 1) := by decide +kernel
theorem dX20_lose_129 : decode cX20_lose 129 = .ok (.if_icmp .eq 38, 3) := by decide +kernel
theorem dX20_lose_132 : decode cX20_lose 132 = .ok (.aload 4, 2) := by decide +kernel
theorem dX20_lose_134 : decode cX20_lose 134 = .ok (.getfield 67, 3) := by decide +kernel
theorem dX20_lose_137 : decode cX20_lose 137 = .ok (.getfield 74, 3) := by decide +kernel
theorem dX20_lose_140 : decode cX20_lose 140 = .ok (.iload 6, 2) := by decide +kernel
theorem dX20_lose_142 : decode cX20_lose 142 = .ok (.aaload, 1) := by decide +kernel
theorem dX20_lose_143 : decode cX20_lose 143 = .ok (.getfield 97, 3) := by decide +kernel
theorem dX20_lose_146 : decode cX20_lose 146 = .ok (.iload_n 2, 1) := by decide +kernel
theorem dX20_lose_147 : decode cX20_lose 147 = .ok (.if_icmp .ne 20, 3) := by decide +kernel
theorem dX20_lose_150 : decode cX20_lose 150 = .ok (.aload_n 0, 1) := by decide +kernel
theorem dX20_lose_151 : decode cX20_lose 151 = .ok (.getfield 27, 3) := by decide +kernel
theorem dX20_lose_154 : decode cX20_lose 154 = .ok (.aload 4, 2) := by decide +kernel
theorem dX20_lose_156 : decode cX20_lose 156 = .ok (.getfield 67, 3) := by decide +kernel
theorem dX20_lose_159 : decode cX20_lose 159 = .ok (.iload 6, 2) := by decide +kernel
theorem dX20_lose_161 : decode cX20_lose 161 = .ok (.invokevirtual 49, 3) := by decide +kernel
theorem dX20_lose_164 : decode cX20_lose 164 = .ok (.invokevirtual 53, 3) := by decide +kernel
theorem dX20_lose_167 : decode cX20_lose 167 = .ok (.return_, 1) := by decide +kernel
def j_X20_lose_167 (M : MM) : Option (MM) :=
  some M
def j_X20_lose_114 (M : MM) : Option (MM) :=
  some M
def f_X20_lose (x0 x1 x2 : Int) (M : MM) : Option (MM) :=
  (gfr 20 0 x0 M).bind fun v1 =>
  ck 3 v1 M <| (f_X3_common v1 x1 M).bind fun v2 =>
  if w32 v2 = w32 160 then
    some M
  else
    ck 20 x0 M <| (f_X20_bucketFor x0 v2 M).bind fun v3 =>
    (gfr 21 0 v3 M).bind fun v4 =>
    ck 22 v4 M <| (f_X22_find v4 x1 M).bind fun v5 =>
    if w32 v5 = w32 (-1) then
      (gfr 21 1 v3 M).bind fun v6 =>
      ck 22 v6 M <| (f_X22_find v6 x1 M).bind fun v7 =>
      if w32 v7 = w32 (-1) then
        j_X20_lose_167 M
      else
        (gfr 21 1 v3 M).bind fun v8 =>
        (gfr 22 0 v8 M).bind fun v9 =>
        (lar 6 v9 v7 M).bind fun v10 =>
        (gfi 23 1 v10 M).bind fun v11 =>
        if w32 v11 = w32 x2 then
          (gfr 20 2 x0 M).bind fun v12 =>
          (gfr 21 1 v3 M).bind fun v13 =>
          ck 22 v13 M <| (f_X22_remove v13 v7 M).bind fun r1 =>
          ck 9 v12 r1.2 <| (f_X9_give v12 r1.1 r1.2).bind fun M1 =>
          j_X20_lose_167 M1
        else
          j_X20_lose_167 M
    else
      (gfr 21 0 v3 M).bind fun v14 =>
      (gfr 22 0 v14 M).bind fun v15 =>
      (lar 6 v15 v5 M).bind fun v16 =>
      (gfi 23 1 v16 M).bind fun v17 =>
      if w32 v17 = w32 x2 then
        (gfr 20 2 x0 M).bind fun v18 =>
        (gfr 21 0 v3 M).bind fun v19 =>
        ck 22 v19 M <| (f_X22_remove v19 v5 M).bind fun r2 =>
        ck 9 v18 r2.2 <| (f_X9_give v18 r2.1 r2.2).bind fun M2 =>
        (gfr 21 1 v3 M2).bind fun v20 =>
        (gfi 22 1 v20 M2).bind fun v21 =>
        if 0 < w32 v21 then
          (gfr 21 0 v3 M2).bind fun v22 =>
          (gfr 21 1 v3 M2).bind fun v23 =>
          (gfr 21 1 v3 M2).bind fun v24 =>
          (gfi 22 1 v24 M2).bind fun v25 =>
          ck 22 v23 M2 <| (f_X22_remove v23 (v25 - 1) M2).bind fun r3 =>
          ck 22 v22 r3.2 <| (f_X22_add v22 r3.1 r3.2).bind fun M3 =>
          j_X20_lose_114 M3
        else
          j_X20_lose_114 M2
      else
        some M
theorem s_X20_lose_167 {g : GG} {d : Nat} (hD : 4 ≤ d) {M : MM} {o : AV × MM} {P : (MM) → Prop} (r0 : ∀ r : MM, P r → o = ((9, 0), r)) {z : MM} (h : j_X20_lose_167 M = some z) (hz : P z) : Sem g d YX20_lose 167 [(9, 0), (9, 0), (9, 0), (9, 0), (9, 0), (9, 0), (9, 0)] [] M o := by
  delta j_X20_lose_167 at h
  obtain rfl := r0 _ (some_P (P := fun r => P r) h hz)
  exact S_return dX20_lose_167 rfl
theorem s_X20_lose_114 {g : GG} {d : Nat} (hD : 4 ≤ d) {M : MM} {o : AV × MM} {P : (MM) → Prop} (r0 : ∀ r : MM, P r → o = ((9, 0), r)) {z : MM} (h : j_X20_lose_114 M = some z) (hz : P z) : Sem g d YX20_lose 114 [(9, 0), (9, 0), (9, 0), (9, 0), (9, 0), (9, 0), (9, 0)] [] M o := by
  delta j_X20_lose_114 at h
  obtain rfl := r0 _ (some_P (P := fun r => P r) h hz)
  exact S_return dX20_lose_114 rfl
theorem s_X20_lose_0 {g : GG} {d : Nat} (hD : 4 ≤ d) {x0 x1 x2 : Int} {M : MM} {o : AV × MM} {P : (MM) → Prop} (r0 : ∀ r : MM, P r → o = ((9, 0), r)) {z : MM} (h : f_X20_lose x0 x1 x2 M = some z) (hz : P z) : Sem g d YX20_lose 0 [(1, x0), (1, x1), (0, x2), (9, 0), (9, 0), (9, 0), (9, 0)] [] M o := by
  delta f_X20_lose at h
  refine S_aload_n (i := 0) dX20_lose_0 rfl rfl ?_
  refine P_gfr FLX20_19 rfl dX20_lose_1 h (fun v1 h => ?_)
  refine S_aload_n (i := 1) dX20_lose_4 rfl rfl ?_
  refine P_invVp 0 [(1, x1)] [] CVX3_common MLX20_83 dX20_lose_5 rfl rfl rfl rfl rfl (by omega) h (fun r h => F_X3_common (by omega) h) (fun v2 h => ?_)
  refine S_istore_n (i := 3) dX20_lose_8 rfl (Nat.le_of_ble_eq_true rfl) rfl rfl ?_
  change Sem g d YX20_lose 9 [(1, x0), (1, x1), (0, x2), (0, v2), (9, 0), (9, 0), (9, 0)] [] M o
  refine S_iload_n (i := 3) dX20_lose_9 rfl rfl ?_
  refine S_sipush (z := 160) dX20_lose_10 rfl ?_
  refine P_icmp_ne (tgt := 17) dX20_lose_13 rfl h (fun h => ?_) (fun h => ?_)
  · refine S_aload_n (i := 0) dX20_lose_17 rfl rfl ?_
    refine S_iload_n (i := 3) dX20_lose_18 rfl rfl ?_
    refine P_invVp 1 [(0, v2)] [] CVX20_bucketFor MLX20_90 dX20_lose_19 rfl rfl rfl rfl rfl (by omega) h (fun r h => F_X20_bucketFor (by omega) h) (fun v3 h => ?_)
    refine S_astore dX20_lose_22 (Nat.le_of_ble_eq_true rfl) rfl rfl ?_
    change Sem g d YX20_lose 24 [(1, x0), (1, x1), (0, x2), (0, v2), (1, v3), (9, 0), (9, 0)] [] M o
    refine S_aload dX20_lose_24 rfl ?_
    refine P_gfr FLX20_59 rfl dX20_lose_26 h (fun v4 h => ?_)
    refine S_aload_n (i := 1) dX20_lose_29 rfl rfl ?_
    refine P_invVp 0 [(1, x1)] [] CVX22_find MLX20_94 dX20_lose_30 rfl rfl rfl rfl rfl (by omega) h (fun r h => F_X22_find (by omega) h) (fun v5 h => ?_)
    refine S_istore dX20_lose_33 (Nat.le_of_ble_eq_true rfl) rfl rfl ?_
    change Sem g d YX20_lose 35 [(1, x0), (1, x1), (0, x2), (0, v2), (1, v3), (0, v5), (9, 0)] [] M o
    refine S_iload dX20_lose_35 rfl ?_
    refine S_iconst dX20_lose_37 rfl ?_
    refine P_icmp_eq (tgt := 115) dX20_lose_38 rfl h (fun h => ?_) (fun h => ?_)
    · refine S_aload dX20_lose_115 rfl ?_
      refine P_gfr FLX20_67 rfl dX20_lose_117 h (fun v6 h => ?_)
      refine S_aload_n (i := 1) dX20_lose_120 rfl rfl ?_
      refine P_invVp 0 [(1, x1)] [] CVX22_find MLX20_94 dX20_lose_121 rfl rfl rfl rfl rfl (by omega) h (fun r h => F_X22_find (by omega) h) (fun v7 h => ?_)
      refine S_istore dX20_lose_124 (Nat.le_of_ble_eq_true rfl) rfl rfl ?_
      change Sem g d YX20_lose 126 [(1, x0), (1, x1), (0, x2), (0, v2), (1, v3), (0, v5), (0, v7)] [] M o
      refine S_iload dX20_lose_126 rfl ?_
      refine S_iconst dX20_lose_128 rfl ?_
      refine P_icmp_eq (tgt := 167) dX20_lose_129 rfl h (fun h => ?_) (fun h => ?_)
      · refine S_weak (ls' := [(9, 0), (9, 0), (9, 0), (9, 0), (9, 0), (9, 0), (9, 0)]) ⟨Or.inl rfl, ⟨Or.inl rfl, ⟨Or.inl rfl, ⟨Or.inl rfl, ⟨Or.inl rfl, ⟨Or.inl rfl, ⟨Or.inl rfl, trivial⟩⟩⟩⟩⟩⟩⟩ ?_
        exact s_X20_lose_167 hD r0 h hz
      · refine S_aload dX20_lose_132 rfl ?_
        refine P_gfr FLX20_67 rfl dX20_lose_134 h (fun v8 h => ?_)
        refine P_gfr FLX20_74 rfl dX20_lose_137 h (fun v9 h => ?_)
        refine S_iload dX20_lose_140 rfl ?_
        refine P_lar (t := 6) ⟨by decide, by decide⟩ dX20_lose_142 h (fun v10 h => ?_)
        refine P_gfi FLX20_97 rfl dX20_lose_143 h (fun v11 h => ?_)
        refine S_iload_n (i := 2) dX20_lose_146 rfl rfl ?_
        refine P_icmp_ne (tgt := 167) dX20_lose_147 rfl h (fun h => ?_) (fun h => ?_)
        · refine S_weak (ls' := [(9, 0), (9, 0), (9, 0), (9, 0), (9, 0), (9, 0), (9, 0)]) ⟨Or.inl rfl, ⟨Or.inl rfl, ⟨Or.inl rfl, ⟨Or.inl rfl, ⟨Or.inl rfl, ⟨Or.inl rfl, ⟨Or.inl rfl, trivial⟩⟩⟩⟩⟩⟩⟩ ?_
          exact s_X20_lose_167 hD r0 h hz
        · refine S_aload_n (i := 0) dX20_lose_150 rfl rfl ?_
          refine P_gfr FLX20_27 rfl dX20_lose_151 h (fun v12 h => ?_)
          refine S_aload dX20_lose_154 rfl ?_
          refine P_gfr FLX20_67 rfl dX20_lose_156 h (fun v13 h => ?_)
          refine S_iload dX20_lose_159 rfl ?_
          refine P_invVe 1 [(0, v7)] [(1, v12)] CVX22_remove MLX20_49 dX20_lose_161 rfl rfl rfl rfl rfl (by omega) h (fun r h => F_X22_remove (by omega) h) (fun r1 h => ?_)
          refine P_invVm' [(1, r1.1)] [] CVX9_give MLX20_53 dX20_lose_164 rfl rfl rfl rfl (by omega) h (fun r h => F_X9_give (by omega) h) (fun M1 h => ?_)
          refine S_weak (ls' := [(9, 0), (9, 0), (9, 0), (9, 0), (9, 0), (9, 0), (9, 0)]) ⟨Or.inl rfl, ⟨Or.inl rfl, ⟨Or.inl rfl, ⟨Or.inl rfl, ⟨Or.inl rfl, ⟨Or.inl rfl, ⟨Or.inl rfl, trivial⟩⟩⟩⟩⟩⟩⟩ ?_
          exact s_X20_lose_167 hD r0 h hz
    · refine S_aload dX20_lose_41 rfl ?_
      refine P_gfr FLX20_59 rfl dX20_lose_43 h (fun v14 h => ?_)
      refine P_gfr FLX20_74 rfl dX20_lose_46 h (fun v15 h => ?_)
      refine S_iload dX20_lose_49 rfl ?_
      refine P_lar (t := 6) ⟨by decide, by decide⟩ dX20_lose_51 h (fun v16 h => ?_)
      refine P_gfi FLX20_97 rfl dX20_lose_52 h (fun v17 h => ?_)
      refine S_iload_n (i := 2) dX20_lose_55 rfl rfl ?_
      refine P_icmp_eq (tgt := 60) dX20_lose_56 rfl h (fun h => ?_) (fun h => ?_)
      · refine S_aload_n (i := 0) dX20_lose_60 rfl rfl ?_
        refine P_gfr FLX20_27 rfl dX20_lose_61 h (fun v18 h => ?_)
        refine S_aload dX20_lose_64 rfl ?_
        refine P_gfr FLX20_59 rfl dX20_lose_66 h (fun v19 h => ?_)
        refine S_iload dX20_lose_69 rfl ?_
        refine P_invVe 1 [(0, v5)] [(1, v18)] CVX22_remove MLX20_49 dX20_lose_71 rfl rfl rfl rfl rfl (by omega) h (fun r h => F_X22_remove (by omega) h) (fun r2 h => ?_)
        refine P_invVm' [(1, r2.1)] [] CVX9_give MLX20_53 dX20_lose_74 rfl rfl rfl rfl (by omega) h (fun r h => F_X9_give (by omega) h) (fun M2 h => ?_)
        refine S_aload dX20_lose_77 rfl ?_
        refine P_gfr FLX20_67 rfl dX20_lose_79 h (fun v20 h => ?_)
        refine P_gfi FLX20_44 rfl dX20_lose_82 h (fun v21 h => ?_)
        refine P_if_le (tgt := 114) dX20_lose_85 rfl h (fun h => ?_) (fun h => ?_)
        · refine S_weak (ls' := [(9, 0), (9, 0), (9, 0), (9, 0), (9, 0), (9, 0), (9, 0)]) ⟨Or.inl rfl, ⟨Or.inl rfl, ⟨Or.inl rfl, ⟨Or.inl rfl, ⟨Or.inl rfl, ⟨Or.inl rfl, ⟨Or.inl rfl, trivial⟩⟩⟩⟩⟩⟩⟩ ?_
          exact s_X20_lose_114 hD r0 h hz
        · refine S_aload dX20_lose_88 rfl ?_
          refine P_gfr FLX20_59 rfl dX20_lose_90 h (fun v22 h => ?_)
          refine S_aload dX20_lose_93 rfl ?_
          refine P_gfr FLX20_67 rfl dX20_lose_95 h (fun v23 h => ?_)
          refine S_aload dX20_lose_98 rfl ?_
          refine P_gfr FLX20_67 rfl dX20_lose_100 h (fun v24 h => ?_)
          refine P_gfi FLX20_44 rfl dX20_lose_103 h (fun v25 h => ?_)
          refine S_iconst dX20_lose_106 rfl ?_
          refine S_isub dX20_lose_107 ?_
          refine P_invVe 1 [(0, v25 - 1)] [(1, v22)] CVX22_remove MLX20_49 dX20_lose_108 rfl rfl rfl rfl rfl (by omega) h (fun r h => F_X22_remove (by omega) h) (fun r3 h => ?_)
          refine P_invVm' [(1, r3.1)] [] CVX22_add MLX20_87 dX20_lose_111 rfl rfl rfl rfl (by omega) h (fun r h => F_X22_add (by omega) h) (fun M3 h => ?_)
          refine S_weak (ls' := [(9, 0), (9, 0), (9, 0), (9, 0), (9, 0), (9, 0), (9, 0)]) ⟨Or.inl rfl, ⟨Or.inl rfl, ⟨Or.inl rfl, ⟨Or.inl rfl, ⟨Or.inl rfl, ⟨Or.inl rfl, ⟨Or.inl rfl, trivial⟩⟩⟩⟩⟩⟩⟩ ?_
          exact s_X20_lose_114 hD r0 h hz
      · obtain rfl := r0 _ (some_P (P := fun r => P r) h hz)
        exact S_return dX20_lose_59 rfl
  · obtain rfl := r0 _ (some_P (P := fun r => P r) h hz)
    exact S_return dX20_lose_16 rfl
theorem F_X20_lose {g : GG} {d : Nat} (hD : 4 ≤ d) {x0 x1 x2 : Int} {M : MM} {r : MM} (h : f_X20_lose x0 x1 x2 M = some r) : Sem g d YX20_lose 0 (ini YX20_lose [(1, x0), (1, x1), (0, x2)]) [] M ((9, 0), r) := by
  change Sem g d YX20_lose 0 [(1, x0), (1, x1), (0, x2), (9, 0), (9, 0), (9, 0), (9, 0)] [] M ((9, 0), r)
  exact s_X20_lose_0 hD (P := fun x => x = r) (fun q e => by rw [e]) h rfl
