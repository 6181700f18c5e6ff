set_option maxRecDepth 100000
/-! PeerSearch$Filter.hash(II)V -/
theorem dX10_hash_0 : decode cX10_hash 0 = .ok (.aload_n 0, 1) := by decide +kernel
theorem dX10_hash_1 : decode cX10_hash 1 = .ok (.getfield 15, 3) := by decide +kernel
theorem dX10_hash_4 : decode cX10_hash 4 = .ok (.iconst 0, 1) := by decide +kernel
theorem dX10_hash_5 : decode cX10_hash 5 = .ok (.iload_n 1, 1) := by decide +kernel
theorem dX10_hash_6 : decode cX10_hash 6 = .ok (.i2b, 1) := by decide +kernel
theorem dX10_hash_7 : decode cX10_hash 7 = .ok (.bastore, 1) := by decide +kernel
theorem dX10_hash_8 : decode cX10_hash 8 = .ok (.aload_n 0, 1) := by decide +kernel
theorem dX10_hash_9 : decode cX10_hash 9 = .ok (.getfield 15, 3) := by decide +kernel
theorem dX10_hash_12 : decode cX10_hash 12 = .ok (.iconst 1, 1) := by decide +kernel
theorem dX10_hash_13 : decode cX10_hash 13 = .ok (.iload_n 2, 1) := by decide +kernel
theorem dX10_hash_14 : decode cX10_hash 14 = .ok (.i2b, 1) := by decide +kernel
theorem dX10_hash_15 : decode cX10_hash 15 = .ok (.bastore, 1) := by decide +kernel
theorem dX10_hash_16 : decode cX10_hash 16 = .ok (.aload_n 0, 1) := by decide +kernel
theorem dX10_hash_17 : decode cX10_hash 17 = .ok (.getfield 25, 3) := by decide +kernel
theorem dX10_hash_20 : decode cX10_hash 20 = .ok (.aload_n 0, 1) := by decide +kernel
theorem dX10_hash_21 : decode cX10_hash 21 = .ok (.getfield 15, 3) := by decide +kernel
theorem dX10_hash_24 : decode cX10_hash 24 = .ok (.iconst 2, 1) := by decide +kernel
theorem dX10_hash_25 : decode cX10_hash 25 = .ok (.aload_n 0, 1) := by decide +kernel
theorem dX10_hash_26 : decode cX10_hash 26 = .ok (.getfield 21, 3) := by decide +kernel
theorem dX10_hash_29 : decode cX10_hash 29 = .ok (.invokevirtual 36, 3) := by decide +kernel
theorem dX10_hash_32 : decode cX10_hash 32 = .ok (.return_, 1) := by decide +kernel
def f_X10_hash (x0 x1 x2 : Int) (M : MM) : Option (MM) :=
  (gfr 10 4 x0 M).bind fun v1 =>
  (sab v1 0 (sx8 x1) M).bind fun M1 =>
  (gfr 10 4 x0 M1).bind fun v2 =>
  (sab v2 1 (sx8 x2) M1).bind fun M2 =>
  (gfr 10 3 x0 M2).bind fun v3 =>
  (gfr 10 4 x0 M2).bind fun v4 =>
  (gfr 10 5 x0 M2).bind fun v5 =>
  ck 8 v3 M2 <| (f_X8_of v3 v4 2 v5 M2).bind fun M3 =>
  some M3
theorem s_X10_hash_0 {g : GG} {d : Nat} (hD : 3 ≤ d) {x0 x1 x2 : Int} {M : MM} {o : AV × MM} {P : (MM) → Prop} (r0 : ∀ r : MM, P r → o = ((9, 0), r)) {z : MM} (h : f_X10_hash x0 x1 x2 M = some z) (hz : P z) : Sem g d YX10_hash 0 [(1, x0), (0, x1), (0, x2)] [] M o := by
  delta f_X10_hash at h
  refine S_aload_n (i := 0) dX10_hash_0 rfl rfl ?_
  refine P_gfr FLX10_15 rfl dX10_hash_1 h (fun v1 h => ?_)
  refine S_iconst dX10_hash_4 rfl ?_
  refine S_iload_n (i := 1) dX10_hash_5 rfl rfl ?_
  refine S_i2b dX10_hash_6 ?_
  refine P_sab dX10_hash_7 h (fun M1 h => ?_)
  refine S_aload_n (i := 0) dX10_hash_8 rfl rfl ?_
  refine P_gfr FLX10_15 rfl dX10_hash_9 h (fun v2 h => ?_)
  refine S_iconst dX10_hash_12 rfl ?_
  refine S_iload_n (i := 2) dX10_hash_13 rfl rfl ?_
  refine S_i2b dX10_hash_14 ?_
  refine P_sab dX10_hash_15 h (fun M2 h => ?_)
  refine S_aload_n (i := 0) dX10_hash_16 rfl rfl ?_
  refine P_gfr FLX10_25 rfl dX10_hash_17 h (fun v3 h => ?_)
  refine S_aload_n (i := 0) dX10_hash_20 rfl rfl ?_
  refine P_gfr FLX10_15 rfl dX10_hash_21 h (fun v4 h => ?_)
  refine S_iconst dX10_hash_24 rfl ?_
  refine S_aload_n (i := 0) dX10_hash_25 rfl rfl ?_
  refine P_gfr FLX10_21 rfl dX10_hash_26 h (fun v5 h => ?_)
  refine P_invVm' [(1, v4), (0, 2), (1, v5)] [] CVX8_of MLX10_36 dX10_hash_29 rfl rfl rfl rfl (by omega) h (fun r h => F_X8_of (by omega) h) (fun M3 h => ?_)
  obtain rfl := r0 _ (some_P (P := fun r => P r) h hz)
  exact S_return dX10_hash_32 rfl
theorem F_X10_hash {g : GG} {d : Nat} (hD : 3 ≤ d) {x0 x1 x2 : Int} {M : MM} {r : MM} (h : f_X10_hash x0 x1 x2 M = some r) : Sem g d YX10_hash 0 (ini YX10_hash [(1, x0), (0, x1), (0, x2)]) [] M ((9, 0), r) := by
  change Sem g d YX10_hash 0 [(1, x0), (0, x1), (0, x2)] [] M ((9, 0), r)
  exact s_X10_hash_0 hD (P := fun x => x = r) (fun q e => by rw [e]) h rfl
/-! PeerSearch$Filter.add(II)V -/
theorem dX10_add_0 : decode cX10_add 0 = .ok (.aload_n 0, 1) := by decide +kernel
theorem dX10_add_1 : decode cX10_add 1 = .ok (.iload_n 1, 1) := by decide +kernel
theorem dX10_add_2 : decode cX10_add 2 = .ok (.iload_n 2, 1) := by decide +kernel
theorem dX10_add_3 : decode cX10_add 3 = .ok (.invokevirtual 50, 3) := by decide +kernel
theorem dX10_add_6 : decode cX10_add 6 = .ok (.iconst 0, 1) := by decide +kernel
theorem dX10_add_7 : decode cX10_add 7 = .ok (.istore_n 3, 1) := by decide +kernel
theorem dX10_add_8 : decode cX10_add 8 = .ok (.iload_n 3, 1) := by decide +kernel
theorem dX10_add_9 : decode cX10_add 9 = .ok (.aload_n 0, 1) := by decide +kernel
theorem dX10_add_10 : decode cX10_add 10 = .ok (.getfield 29, 3) := by decide +kernel
theorem dX10_add_13 : decode cX10_add 13 = .ok (.if_icmp .ge 37, 3) := by decide +kernel
theorem dX10_add_16 : decode cX10_add 16 = .ok (.aload_n 0, 1) := by decide +kernel
theorem dX10_add_17 : decode cX10_add 17 = .ok (.getfield 9, 3) := by decide +kernel
theorem dX10_add_20 : decode cX10_add 20 = .ok (.aload_n 0, 1) := by decide +kernel
theorem dX10_add_21 : decode cX10_add 21 = .ok (.iload_n 3, 1) := by decide +kernel
theorem dX10_add_22 : decode cX10_add 22 = .ok (.invokevirtual 54, 3) := by decide +kernel
theorem dX10_add_25 : decode cX10_add 25 = .ok (.bipush 8, 2) := by decide +kernel
theorem dX10_add_27 : decode cX10_add 27 = .ok (.idiv, 1) := by decide +kernel
theorem dX10_add_28 : decode cX10_add 28 = .ok (.dup2, 1) := by decide +kernel
theorem dX10_add_29 : decode cX10_add 29 = .ok (.baload, 1) := by decide +kernel
theorem dX10_add_30 : decode cX10_add 30 = .ok (.iconst 1, 1) := by decide +kernel
theorem dX10_add_31 : decode cX10_add 31 = .ok (.aload_n 0, 1) := by decide +kernel
theorem dX10_add_32 : decode cX10_add 32 = .ok (.iload_n 3, 1) := by decide +kernel
theorem dX10_add_33 : decode cX10_add 33 = .ok (.invokevirtual 54, 3) := by decide +kernel
theorem dX10_add_36 : decode cX10_add 36 = .ok (.bipush 8, 2) := by decide +kernel
theorem dX10_add_38 : decode cX10_add 38 = .ok (.irem, 1) := by decide +kernel
theorem dX10_add_39 : decode cX10_add 39 = .ok (.ishl, 1) := by decide +kernel
theorem dX10_add_40 : decode cX10_add 40 = .ok (.i2b, 1) := by decide +kernel
theorem dX10_add_41 : decode cX10_add 41 = .ok (.ior, 1) := by decide +kernel
theorem dX10_add_42 : decode cX10_add 42 = .ok (.i2b, 1) := by decide +kernel
theorem dX10_add_43 : decode cX10_add 43 = .ok (.bastore, 1) := by decide +kernel
theorem dX10_add_44 : decode cX10_add 44 = .ok (.iinc 3 1, 3) := by decide +kernel
theorem dX10_add_47 : decode cX10_add 47 = .ok (.goto (-39), 3) := by decide +kernel
theorem dX10_add_50 : decode cX10_add 50 = .ok (.return_, 1) := by decide +kernel
def b_X10_add_8 (x0 x3 : Int) (M : MM) : Option ((Int × MM) ⊕ (MM)) :=
  (gfi 10 2 x0 M).bind fun v1 =>
  if w32 x3 < w32 v1 then
    (gfr 10 0 x0 M).bind fun v2 =>
    ck 10 x0 M <| (f_X10_bit x0 x3 M).bind fun v3 =>
    (dvi v3 8).bind fun v4 =>
    (lab v2 v4 M).bind fun v5 =>
    ck 10 x0 M <| (f_X10_bit x0 x3 M).bind fun v6 =>
    (rmi v6 8).bind fun v7 =>
    (sab v2 v4 (sx8 (bor v5 (sx8 (bshl 1 v7)))) M).bind fun M1 =>
    cnt (x3 + 1, M1)
  else
    xit (some M)
def l_X10_add_8 (x0 x3 : Int) (M : MM) : Option (MM) := lpN (fun s : Int × MM => b_X10_add_8 x0 s.1 s.2) FU (x3, M)
def f_X10_add (x0 x1 x2 : Int) (M : MM) : Option (MM) :=
  ck 10 x0 M <| (f_X10_hash x0 x1 x2 M).bind fun M1 =>
  l_X10_add_8 x0 0 M1
theorem s_X10_add_8 {g : GG} {d : Nat} (hD : 4 ≤ d) {x0 x3 : Int} {M : MM} {o : AV × MM} {P : ((Int × MM) ⊕ (MM)) → Prop} (c0 : ∀ s : Int × MM, P (.inl s) → Sem g d YX10_add 8 [(1, x0), (9, 0), (9, 0), (0, s.1)] [] s.2 o) (r0 : ∀ r : MM, P (.inr r) → o = ((9, 0), r)) {z : (Int × MM) ⊕ (MM)} (h : b_X10_add_8 x0 x3 M = some z) (hz : P z) : Sem g d YX10_add 8 [(1, x0), (9, 0), (9, 0), (0, x3)] [] M o := by
  delta b_X10_add_8 at h
  refine S_iload_n (i := 3) dX10_add_8 rfl rfl ?_
  refine S_aload_n (i := 0) dX10_add_9 rfl rfl ?_
  refine P_gfi FLX10_29 rfl dX10_add_10 h (fun v1 h => ?_)
  refine P_icmp_ge (tgt := 50) dX10_add_13 rfl h (fun h => ?_) (fun h => ?_)
  · obtain ⟨z0, h, hz⟩ := xit_some' (P := fun r => P r) h hz
    obtain rfl := r0 _ (some_P (P := fun r => P (.inr r)) h hz)
    exact S_return dX10_add_50 rfl
  · refine S_aload_n (i := 0) dX10_add_16 rfl rfl ?_
    refine P_gfr FLX10_9 rfl dX10_add_17 h (fun v2 h => ?_)
    refine S_aload_n (i := 0) dX10_add_20 rfl rfl ?_
    refine S_iload_n (i := 3) dX10_add_21 rfl rfl ?_
    refine P_invVp 0 [(0, x3)] [(1, v2)] CVX10_bit MLX10_54 dX10_add_22 rfl rfl rfl rfl rfl (by omega) h (fun r h => F_X10_bit (by omega) h) (fun v3 h => ?_)
    refine S_bipush (z := 8) dX10_add_25 rfl ?_
    refine P_dvi dX10_add_27 h (fun v4 h => ?_)
    refine S_dup2 dX10_add_28 (Nat.le_of_ble_eq_true rfl) (Nat.le_of_ble_eq_true rfl) ?_
    refine P_lab dX10_add_29 h (fun v5 h => ?_)
    refine S_iconst dX10_add_30 rfl ?_
    refine S_aload_n (i := 0) dX10_add_31 rfl rfl ?_
    refine S_iload_n (i := 3) dX10_add_32 rfl rfl ?_
    refine P_invVp 0 [(0, x3)] [(0, 1), (0, v5), (0, v4), (1, v2)] CVX10_bit MLX10_54 dX10_add_33 rfl rfl rfl rfl rfl (by omega) h (fun r h => F_X10_bit (by omega) h) (fun v6 h => ?_)
    refine S_bipush (z := 8) dX10_add_36 rfl ?_
    refine P_rmi dX10_add_38 h (fun v7 h => ?_)
    refine S_ishl dX10_add_39 ?_
    refine S_i2b dX10_add_40 ?_
    refine S_ior dX10_add_41 ?_
    refine S_i2b dX10_add_42 ?_
    refine P_sab dX10_add_43 h (fun M1 h => ?_)
    refine S_iinc dX10_add_44 rfl rfl rfl ?_
    change Sem g d YX10_add 47 [(1, x0), (9, 0), (9, 0), (0, x3 + 1)] [] M1 o
    refine S_goto (tgt := 8) dX10_add_47 rfl ?_
    exact c0 (x3 + 1, M1) (some_P (P := fun r => P r) h hz)
theorem sl_X10_add_8 {g : GG} {d : Nat} (hD : 4 ≤ d) {x0 x3 : Int} {M : MM} {o : AV × MM} {P : (MM) → Prop} (r0 : ∀ r : MM, P r → o = ((9, 0), r)) {z : MM} (h : l_X10_add_8 x0 x3 M = some z) (hz : P z) : Sem g d YX10_add 8 [(1, x0), (9, 0), (9, 0), (0, x3)] [] M o := by
  refine lp_sound (S := fun s : Int × MM => Sem g d YX10_add 8 [(1, x0), (9, 0), (9, 0), (0, s.1)] [] s.2 o) (P := P) ?_ FU (x3, M) z h hz
  intro s x hx hP
  exact s_X10_add_8 hD (P := Sum.elim (fun s : Int × MM => Sem g d YX10_add 8 [(1, x0), (9, 0), (9, 0), (0, s.1)] [] s.2 o) P) (fun s h => h) (fun s h => r0 s h) hx hP
theorem s_X10_add_0 {g : GG} {d : Nat} (hD : 4 ≤ d) {x0 x1 x2 : Int} {M : MM} {o : AV × MM} {P : (MM) → Prop} (r0 : ∀ r : MM, P r → o = ((9, 0), r)) {z : MM} (h : f_X10_add x0 x1 x2 M = some z) (hz : P z) : Sem g d YX10_add 0 [(1, x0), (0, x1), (0, x2), (9, 0)] [] M o := by
  delta f_X10_add at h
  refine S_aload_n (i := 0) dX10_add_0 rfl rfl ?_
  refine S_iload_n (i := 1) dX10_add_1 rfl rfl ?_
  refine S_iload_n (i := 2) dX10_add_2 rfl rfl ?_
  refine P_invVm' [(0, x1), (0, x2)] [] CVX10_hash MLX10_50 dX10_add_3 rfl rfl rfl rfl (by omega) h (fun r h => F_X10_hash (by omega) h) (fun M1 h => ?_)
  refine S_iconst dX10_add_6 rfl ?_
  refine S_istore_n (i := 3) dX10_add_7 rfl (Nat.le_of_ble_eq_true rfl) rfl rfl ?_
  change Sem g d YX10_add 8 [(1, x0), (0, x1), (0, x2), (0, 0)] [] M1 o
  refine S_weak (ls' := [(1, x0), (9, 0), (9, 0), (0, 0)]) ⟨Or.inr rfl, ⟨Or.inl rfl, ⟨Or.inl rfl, ⟨Or.inr rfl, trivial⟩⟩⟩⟩ ?_
  exact sl_X10_add_8 hD r0 h hz
theorem F_X10_add {g : GG} {d : Nat} (hD : 4 ≤ d) {x0 x1 x2 : Int} {M : MM} {r : MM} (h : f_X10_add x0 x1 x2 M = some r) : Sem g d YX10_add 0 (ini YX10_add [(1, x0), (0, x1), (0, x2)]) [] M ((9, 0), r) := by
  change Sem g d YX10_add 0 [(1, x0), (0, x1), (0, x2), (9, 0)] [] M ((9, 0), r)
  exact s_X10_add_0 hD (P := fun x => x = r) (fun q e => by rw [e]) h rfl
/-! java/lang/Integer.compare(II)I -/
theorem dJ1_compare_0 : decode cJ1_compare 0 = .ok (.iload_n 0, 1) := by decide +kernel
theorem dJ1_compare_1 : decode cJ1_compare 1 = .ok (.iload_n 1, 1) := by decide +kernel
theorem dJ1_compare_2 : decode cJ1_compare 2 = .ok (.if_icmp .ge 7, 3) := by decide +kernel
theorem dJ1_compare_5 : decode cJ1_compare 5 = .ok (.iconst (-1), 1) := by decide +kernel
theorem dJ1_compare_6 : decode cJ1_compare 6 = .ok (.goto 13, 3) := by decide +kernel
theorem dJ1_compare_9 : decode cJ1_compare 9 = .ok (.iload_n 0, 1) := by decide +kernel
theorem dJ1_compare_10 : decode cJ1_compare 10 = .ok (.iload_n 1, 1) := by decide +kernel
theorem dJ1_compare_11 : decode cJ1_compare 11 = .ok (.if_icmp .ne 7, 3) := by decide +kernel
theorem dJ1_compare_14 : decode cJ1_compare 14 = .ok (.iconst 0, 1) := by decide +kernel
theorem dJ1_compare_15 : decode cJ1_compare 15 = .ok (.goto 4, 3) := by decide +kernel
theorem dJ1_compare_18 : decode cJ1_compare 18 = .ok (.iconst 1, 1) := by decide +kernel
theorem dJ1_compare_19 : decode cJ1_compare 19 = .ok (.ireturn, 1) := by decide +kernel
def j_J1_compare_19 (y0 : Int) : Option (Int) :=
  some y0
def f_J1_compare (x0 x1 : Int) : Option (Int) :=
  if w32 x0 < w32 x1 then
    j_J1_compare_19 (-1)
  else
    if w32 x0 = w32 x1 then
      j_J1_compare_19 0
    else
      j_J1_compare_19 1
theorem s_J1_compare_19 {g : GG} {d : Nat} (hD : 0 ≤ d) {y0 : Int} {M : MM} {o : AV × MM} {P : (Int) → Prop} (r0 : ∀ r : Int, P r → o = ((0, r), M)) {z : Int} (h : j_J1_compare_19 y0 = some z) (hz : P z) : Sem g d YJ1_compare 19 [(9, 0), (9, 0)] [(0, y0)] M o := by
  delta j_J1_compare_19 at h
  obtain rfl := r0 _ (some_P (P := fun r => P r) h hz)
  exact P_ret dJ1_compare_19 rfl (Or.inl rfl)
theorem s_J1_compare_0 {g : GG} {d : Nat} (hD : 0 ≤ d) {x0 x1 : Int} {M : MM} {o : AV × MM} {P : (Int) → Prop} (r0 : ∀ r : Int, P r → o = ((0, r), M)) {z : Int} (h : f_J1_compare x0 x1 = some z) (hz : P z) : Sem g d YJ1_compare 0 [(0, x0), (0, x1)] [] M o := by
  delta f_J1_compare at h
  refine S_iload_n (i := 0) dJ1_compare_0 rfl rfl ?_
  refine S_iload_n (i := 1) dJ1_compare_1 rfl rfl ?_
  refine P_icmp_ge (tgt := 9) dJ1_compare_2 rfl h (fun h => ?_) (fun h => ?_)
  · refine S_iload_n (i := 0) dJ1_compare_9 rfl rfl ?_
    refine S_iload_n (i := 1) dJ1_compare_10 rfl rfl ?_
    refine P_icmp_ne (tgt := 18) dJ1_compare_11 rfl h (fun h => ?_) (fun h => ?_)
    · refine S_iconst dJ1_compare_18 rfl ?_
      refine S_weak (ls' := [(9, 0), (9, 0)]) ⟨Or.inl rfl, ⟨Or.inl rfl, trivial⟩⟩ ?_
      exact s_J1_compare_19 hD r0 h hz
    · refine S_iconst dJ1_compare_14 rfl ?_
      refine S_goto (tgt := 19) dJ1_compare_15 rfl ?_
      refine S_weak (ls' := [(9, 0), (9, 0)]) ⟨Or.inl rfl, ⟨Or.inl rfl, trivial⟩⟩ ?_
      exact s_J1_compare_19 hD r0 h hz
  · refine S_iconst dJ1_compare_5 rfl ?_
    refine S_goto (tgt := 19) dJ1_compare_6 rfl ?_
    refine S_weak (ls' := [(9, 0), (9, 0)]) ⟨Or.inl rfl, ⟨Or.inl rfl, trivial⟩⟩ ?_
    exact s_J1_compare_19 hD r0 h hz
theorem F_J1_compare {g : GG} {d : Nat} (hD : 0 ≤ d) {x0 x1 : Int} {M : MM} {r : Int} (h : f_J1_compare x0 x1 = some r) : Sem g d YJ1_compare 0 (ini YJ1_compare [(0, x0), (0, x1)]) [] M ((0, r), M) := by
  change Sem g d YJ1_compare 0 [(0, x0), (0, x1)] [] M ((0, r), M)
  exact s_J1_compare_0 hD (P := fun x => x = r) (fun q e => by rw [e]) h rfl
/-! java/lang/Integer.compareUnsigned(II)I -/
theorem dJ1_compareUnsigned_0 : decode cJ1_compareUnsigned 0 = .ok (.iload_n 0, 1) := by decide +kernel
theorem dJ1_compareUnsigned_1 : decode cJ1_compareUnsigned 1 = .ok (.ldc 127, 2) := by decide +kernel
theorem dJ1_compareUnsigned_3 : decode cJ1_compareUnsigned 3 = .ok (.iadd, 1) := by decide +kernel
theorem dJ1_compareUnsigned_4 : decode cJ1_compareUnsigned 4 = .ok (.iload_n 1, 1) := by decide +kernel
theorem dJ1_compareUnsigned_5 : decode cJ1_compareUnsigned 5 = .ok (.ldc 127, 2) := by decide +kernel
theorem dJ1_compareUnsigned_7 : decode cJ1_compareUnsigned 7 = .ok (.iadd, 1) := by decide +kernel
theorem dJ1_compareUnsigned_8 : decode cJ1_compareUnsigned 8 = .ok (.invokestatic 259, 3) := by decide +kernel
theorem dJ1_compareUnsigned_11 : decode cJ1_compareUnsigned 11 = .ok (.ireturn, 1) := by decide +kernel
def f_J1_compareUnsigned (x0 x1 : Int) : Option (Int) :=
  (f_J1_compare (x0 + (-2147483648)) (x1 + (-2147483648))).bind fun v1 =>
  some v1
theorem s_J1_compareUnsigned_0 {g : GG} {d : Nat} (hD : 1 ≤ d) {x0 x1 : Int} {M : MM} {o : AV × MM} {P : (Int) → Prop} (r0 : ∀ r : Int, P r → o = ((0, r), M)) {z : Int} (h : f_J1_compareUnsigned x0 x1 = some z) (hz : P z) : Sem g d YJ1_compareUnsigned 0 [(0, x0), (0, x1)] [] M o := by
  delta f_J1_compareUnsigned at h
  refine S_iload_n (i := 0) dJ1_compareUnsigned_0 rfl rfl ?_
  refine S_ldc (z := (-2147483648)) kJ1_127 dJ1_compareUnsigned_1 ?_
  refine S_iadd dJ1_compareUnsigned_3 ?_
  refine S_iload_n (i := 1) dJ1_compareUnsigned_4 rfl rfl ?_
  refine S_ldc (z := (-2147483648)) kJ1_127 dJ1_compareUnsigned_5 ?_
  refine S_iadd dJ1_compareUnsigned_7 ?_
  refine P_invSp 0 [(0, x0 + (-2147483648)), (0, x1 + (-2147483648))] [] CSJ1_compare MLJ1_259 dJ1_compareUnsigned_8 rfl rfl rfl rfl rfl (by omega) h (fun r h => F_J1_compare (by omega) h) (fun v1 h => ?_)
  obtain rfl := r0 _ (some_P (P := fun r => P r) h hz)
  exact P_ret dJ1_compareUnsigned_11 rfl (Or.inl rfl)
theorem F_J1_compareUnsigned {g : GG} {d : Nat} (hD : 1 ≤ d) {x0 x1 : Int} {M : MM} {r : Int} (h : f_J1_compareUnsigned x0 x1 = some r) : Sem g d YJ1_compareUnsigned 0 (ini YJ1_compareUnsigned [(0, x0), (0, x1)]) [] M ((0, r), M) := by
  change Sem g d YJ1_compareUnsigned 0 [(0, x0), (0, x1)] [] M ((0, r), M)
  exact s_J1_compareUnsigned_0 hD (P := fun x => x = r) (fun q e => by rw [e]) h rfl
/-! PeerSearch$Key.compare(LPeerSearch$Key;)I -/
theorem dX3_compare_0 : decode cX3_compare 0 = .ok (.iconst 0, 1) := by decide +kernel
theorem dX3_compare_1 : decode cX3_compare 1 = .ok (.istore_n 2, 1) := by decide +kernel
theorem dX3_compare_2 : decode cX3_compare 2 = .ok (.iload_n 2, 1) := by decide +kernel
theorem dX3_compare_3 : decode cX3_compare 3 = .ok (.iconst 5, 1) := by decide +kernel
theorem dX3_compare_4 : decode cX3_compare 4 = .ok (.if_icmp .ge 40, 3) := by decide +kernel
theorem dX3_compare_7 : decode cX3_compare 7 = .ok (.aload_n 0, 1) := by decide +kernel
theorem dX3_compare_8 : decode cX3_compare 8 = .ok (.getfield 9, 3) := by decide +kernel
theorem dX3_compare_11 : decode cX3_compare 11 = .ok (.iload_n 2, 1) := by decide +kernel
theorem dX3_compare_12 : decode cX3_compare 12 = .ok (.iaload, 1) := by decide +kernel
theorem dX3_compare_13 : decode cX3_compare 13 = .ok (.aload_n 1, 1) := by decide +kernel
theorem dX3_compare_14 : decode cX3_compare 14 = .ok (.getfield 9, 3) := by decide +kernel
theorem dX3_compare_17 : decode cX3_compare 17 = .ok (.iload_n 2, 1) := by decide +kernel
theorem dX3_compare_18 : decode cX3_compare 18 = .ok (.iaload, 1) := by decide +kernel
theorem dX3_compare_19 : decode cX3_compare 19 = .ok (.if_icmp .eq 19, 3) := by decide +kernel
theorem dX3_compare_22 : decode cX3_compare 22 = .ok (.aload_n 0, 1) := by decide +kernel
theorem dX3_compare_23 : decode cX3_compare 23 = .ok (.getfield 9, 3) := by decide +kernel
theorem dX3_compare_26 : decode cX3_compare 26 = .ok (.iload_n 2, 1) := by decide +kernel
theorem dX3_compare_27 : decode cX3_compare 27 = .ok (.iaload, 1) := by decide +kernel
theorem dX3_compare_28 : decode cX3_compare 28 = .ok (.aload_n 1, 1) := by decide +kernel
theorem dX3_compare_29 : decode cX3_compare 29 = .ok (.getfield 9, 3) := by decide +kernel
theorem dX3_compare_32 : decode cX3_compare 32 = .ok (.iload_n 2, 1) := by decide +kernel
theorem dX3_compare_33 : decode cX3_compare 33 = .ok (.iaload, 1) := by decide +kernel
theorem dX3_compare_34 : decode cX3_compare 34 = .ok (.invokestatic 23, 3) := by decide +kernel
theorem dX3_compare_37 : decode cX3_compare 37 = .ok (.ireturn, 1) := by decide +kernel
theorem dX3_compare_38 : decode cX3_compare 38 = .ok (.iinc 2 1, 3) := by decide +kernel
theorem dX3_compare_41 : decode cX3_compare 41 = .ok (.goto (-39), 3) := by decide +kernel
theorem dX3_compare_44 : decode cX3_compare 44 = .ok (.iconst 0, 1) := by decide +kernel
theorem dX3_compare_45 : decode cX3_compare 45 = .ok (.ireturn, 1) := by decide +kernel
def j_X3_compare_22 (x0 x1 x2 : Int) (M : MM) : Option (Int) :=
  (gfr 3 0 x0 M).bind fun v1 =>
  (lai v1 x2 M).bind fun v2 =>
  (gfr 3 0 x1 M).bind fun v3 =>
  (lai v3 x2 M).bind fun v4 =>
  (f_J1_compareUnsigned v2 v4).bind fun v5 =>
  some v5
def b_X3_compare_2 (x0 x1 x2 : Int) (M : MM) : Option ((Int) ⊕ (Int)) :=
  if w32 x2 < w32 5 then
    (gfr 3 0 x0 M).bind fun v1 =>
    (lai v1 x2 M).bind fun v2 =>
    (gfr 3 0 x1 M).bind fun v3 =>
    (lai v3 x2 M).bind fun v4 =>
    if w32 v2 = w32 v4 then
      cnt (x2 + 1)
    else
      xit (j_X3_compare_22 x0 x1 x2 M)
  else
    xit (some 0)
def l_X3_compare_2 (x0 x1 x2 : Int) (M : MM) : Option (Int) := lpN (fun s : Int => b_X3_compare_2 x0 x1 s M) FU x2
def f_X3_compare (x0 x1 : Int) (M : MM) : Option (Int) :=
  l_X3_compare_2 x0 x1 0 M
theorem s_X3_compare_22 {g : GG} {d : Nat} (hD : 2 ≤ d) {x0 x1 x2 : Int} {M : MM} {o : AV × MM} {P : (Int) → Prop} (r0 : ∀ r : Int, P r → o = ((0, r), M)) {z : Int} (h : j_X3_compare_22 x0 x1 x2 M = some z) (hz : P z) : Sem g d YX3_compare 22 [(1, x0), (1, x1), (0, x2)] [] M o := by
  delta j_X3_compare_22 at h
  refine S_aload_n (i := 0) dX3_compare_22 rfl rfl ?_
  refine P_gfr FLX3_9 rfl dX3_compare_23 h (fun v1 h => ?_)
  refine S_iload_n (i := 2) dX3_compare_26 rfl rfl ?_
  refine P_lai dX3_compare_27 h (fun v2 h => ?_)
  refine S_aload_n (i := 1) dX3_compare_28 rfl rfl ?_
  refine P_gfr FLX3_9 rfl dX3_compare_29 h (fun v3 h => ?_)
  refine S_iload_n (i := 2) dX3_compare_32 rfl rfl ?_
  refine P_lai dX3_compare_33 h (fun v4 h => ?_)
  refine P_invSp 0 [(0, v2), (0, v4)] [] CSJ1_compareUnsigned MLX3_23 dX3_compare_34 rfl rfl rfl rfl rfl (by omega) h (fun r h => F_J1_compareUnsigned (by omega) h) (fun v5 h => ?_)
  obtain rfl := r0 _ (some_P (P := fun r => P r) h hz)
  exact P_ret dX3_compare_37 rfl (Or.inl rfl)
theorem s_X3_compare_2 {g : GG} {d : Nat} (hD : 2 ≤ d) {x0 x1 x2 : Int} {M : MM} {o : AV × MM} {P : ((Int) ⊕ (Int)) → Prop} (c0 : ∀ s : Int, P (.inl s) → Sem g d YX3_compare 2 [(1, x0), (1, x1), (0, s)] [] M o) (r0 : ∀ r : Int, P (.inr r) → o = ((0, r), M)) {z : (Int) ⊕ (Int)} (h : b_X3_compare_2 x0 x1 x2 M = some z) (hz : P z) : Sem g d YX3_compare 2 [(1, x0), (1, x1), (0, x2)] [] M o := by
  delta b_X3_compare_2 at h
  refine S_iload_n (i := 2) dX3_compare_2 rfl rfl ?_
  refine S_iconst dX3_compare_3 rfl ?_
  refine P_icmp_ge (tgt := 44) dX3_compare_4 rfl h (fun h => ?_) (fun h => ?_)
  · obtain ⟨z0, h, hz⟩ := xit_some' (P := fun r => P r) h hz
    refine S_iconst dX3_compare_44 rfl ?_
    obtain rfl := r0 _ (some_P (P := fun r => P (.inr r)) h hz)
    exact P_ret dX3_compare_45 rfl (Or.inl rfl)
  · refine S_aload_n (i := 0) dX3_compare_7 rfl rfl ?_
    refine P_gfr FLX3_9 rfl dX3_compare_8 h (fun v1 h => ?_)
    refine S_iload_n (i := 2) dX3_compare_11 rfl rfl ?_
    refine P_lai dX3_compare_12 h (fun v2 h => ?_)
    refine S_aload_n (i := 1) dX3_compare_13 rfl rfl ?_
    refine P_gfr FLX3_9 rfl dX3_compare_14 h (fun v3 h => ?_)
    refine S_iload_n (i := 2) dX3_compare_17 rfl rfl ?_
    refine P_lai dX3_compare_18 h (fun v4 h => ?_)
    refine P_icmp_eq (tgt := 38) dX3_compare_19 rfl h (fun h => ?_) (fun h => ?_)
    · refine S_iinc dX3_compare_38 rfl rfl rfl ?_
      change Sem g d YX3_compare 41 [(1, x0), (1, x1), (0, x2 + 1)] [] M o
      refine S_goto (tgt := 2) dX3_compare_41 rfl ?_
      exact c0 (x2 + 1) (some_P (P := fun r => P r) h hz)
    · obtain ⟨z0, h, hz⟩ := xit_some' (P := fun r => P r) h hz
      exact s_X3_compare_22 hD (P := fun r => P (.inr r)) r0 h hz
theorem sl_X3_compare_2 {g : GG} {d : Nat} (hD : 2 ≤ d) {x0 x1 x2 : Int} {M : MM} {o : AV × MM} {P : (Int) → Prop} (r0 : ∀ r : Int, P r → o = ((0, r), M)) {z : Int} (h : l_X3_compare_2 x0 x1 x2 M = some z) (hz : P z) : Sem g d YX3_compare 2 [(1, x0), (1, x1), (0, x2)] [] M o := by
  refine lp_sound (S := fun s : Int => Sem g d YX3_compare 2 [(1, x0), (1, x1), (0, s)] [] M o) (P := P) ?_ FU x2 z h hz
  intro s x hx hP
  exact s_X3_compare_2 hD (P := Sum.elim (fun s : Int => Sem g d YX3_compare 2 [(1, x0), (1, x1), (0, s)] [] M o) P) (fun s h => h) (fun s h => r0 s h) hx hP
theorem s_X3_compare_0 {g : GG} {d : Nat} (hD : 2 ≤ d) {x0 x1 : Int} {M : MM} {o : AV × MM} {P : (Int) → Prop} (r0 : ∀ r : Int, P r → o = ((0, r), M)) {z : Int} (h : f_X3_compare x0 x1 M = some z) (hz : P z) : Sem g d YX3_compare 0 [(1, x0), (1, x1), (9, 0)] [] M o := by
  delta f_X3_compare at h
  refine S_iconst dX3_compare_0 rfl ?_
  refine S_istore_n (i := 2) dX3_compare_1 rfl (Nat.le_of_ble_eq_true rfl) rfl rfl ?_
  change Sem g d YX3_compare 2 [(1, x0), (1, x1), (0, 0)] [] M o
  exact sl_X3_compare_2 hD r0 h hz
theorem F_X3_compare {g : GG} {d : Nat} (hD : 2 ≤ d) {x0 x1 : Int} {M : MM} {r : Int} (h : f_X3_compare x0 x1 M = some r) : Sem g d YX3_compare 0 (ini YX3_compare [(1, x0), (1, x1)]) [] M ((0, r), M) := by
  change Sem g d YX3_compare 0 [(1, x0), (1, x1), (9, 0)] [] M ((0, r), M)
  exact s_X3_compare_0 hD (P := fun x => x = r) (fun q e => by rw [e]) h rfl
/-! PeerSearch$Store.compare(LPeerSearch$Posting;LPeerSearch$Key;II)I -/
theorem dX18_compare_0 : decode cX18_compare 0 = .ok (.aload_n 0, 1) := by decide +kernel
theorem dX18_compare_1 : decode cX18_compare 1 = .ok (.getfield 26, 3) := by decide +kernel
theorem dX18_compare_4 : decode cX18_compare 4 = .ok (.aload_n 1, 1) := by decide +kernel
theorem dX18_compare_5 : decode cX18_compare 5 = .ok (.invokevirtual 27, 3) := by decide +kernel
theorem dX18_compare_8 : decode cX18_compare 8 = .ok (.istore 4, 2) := by decide +kernel
theorem dX18_compare_10 : decode cX18_compare 10 = .ok (.iload 4, 2) := by decide +kernel
theorem dX18_compare_12 : decode cX18_compare 12 = .ok (.ifCond .eq 6, 3) := by decide +kernel
theorem dX18_compare_15 : decode cX18_compare 15 = .ok (.iload 4, 2) := by decide +kernel
theorem dX18_compare_17 : decode cX18_compare 17 = .ok (.ireturn, 1) := by decide +kernel
theorem dX18_compare_18 : decode cX18_compare 18 = .ok (.aload_n 0, 1) := by decide +kernel
theorem dX18_compare_19 : decode cX18_compare 19 = .ok (.getfield 31, 3) := by decide +kernel
theorem dX18_compare_22 : decode cX18_compare 22 = .ok (.iload_n 2, 1) := by decide +kernel
theorem dX18_compare_23 : decode cX18_compare 23 = .ok (.if_icmp .eq 12, 3) := by decide +kernel
theorem dX18_compare_26 : decode cX18_compare 26 = .ok (.aload_n 0, 1) := by decide +kernel
theorem dX18_compare_27 : decode cX18_compare 27 = .ok (.getfield 31, 3) := by decide +kernel
theorem dX18_compare_30 : decode cX18_compare 30 = .ok (.iload_n 2, 1) := by decide +kernel
theorem dX18_compare_31 : decode cX18_compare 31 = .ok (.isub, 1) := by decide +kernel
theorem dX18_compare_32 : decode cX18_compare 32 = .ok (.goto 9, 3) := by decide +kernel
theorem dX18_compare_35 : decode cX18_compare 35 = .ok (.aload_n 0, 1) := by decide +kernel
theorem dX18_compare_36 : decode cX18_compare 36 = .ok (.getfield 35, 3) := by decide +kernel
theorem dX18_compare_39 : decode cX18_compare 39 = .ok (.iload_n 3, 1) := by decide +kernel
theorem dX18_compare_40 : decode cX18_compare 40 = .ok (.isub, 1) := by decide +kernel
theorem dX18_compare_41 : decode cX18_compare 41 = .ok (.ireturn, 1) := by decide +kernel
def j_X18_compare_41 (y0 : Int) (M : MM) : Option (Int) :=
  some y0
def f_X18_compare (x0 x1 x2 x3 : Int) (M : MM) : Option (Int) :=
  (gfr 28 0 x0 M).bind fun v1 =>
  ck 3 v1 M <| (f_X3_compare v1 x1 M).bind fun v2 =>
  if w32 v2 = 0 then
    (gfi 28 1 x0 M).bind fun v3 =>
    if w32 v3 = w32 x2 then
      (gfi 28 2 x0 M).bind fun v4 =>
      j_X18_compare_41 (v4 - x3) M
    else
      (gfi 28 1 x0 M).bind fun v5 =>
      j_X18_compare_41 (v5 - x2) M
  else
    some v2
theorem s_X18_compare_41 {g : GG} {d : Nat} (hD : 3 ≤ d) {y0 : Int} {M : MM} {o : AV × MM} {P : (Int) → Prop} (r0 : ∀ r : Int, P r → o = ((0, r), M)) {z : Int} (h : j_X18_compare_41 y0 M = some z) (hz : P z) : Sem g d YX18_compare 41 [(9, 0), (9, 0), (9, 0), (9, 0), (9, 0)] [(0, y0)] M o := by
  delta j_X18_compare_41 at h
  obtain rfl := r0 _ (some_P (P := fun r => P r) h hz)
  exact P_ret dX18_compare_41 rfl (Or.inl rfl)
theorem s_X18_compare_0 {g : GG} {d : Nat} (hD : 3 ≤ d) {x0 x1 x2 x3 : Int} {M : MM} {o : AV × MM} {P : (Int) → Prop} (r0 : ∀ r : Int, P r → o = ((0, r), M)) {z : Int} (h : f_X18_compare x0 x1 x2 x3 M = some z) (hz : P z) : Sem g d YX18_compare 0 [(1, x0), (1, x1), (0, x2), (0, x3), (9, 0)] [] M o := by
  delta f_X18_compare at h
  refine S_aload_n (i := 0) dX18_compare_0 rfl rfl ?_
  refine P_gfr FLX18_26 rfl dX18_compare_1 h (fun v1 h => ?_)
  refine S_aload_n (i := 1) dX18_compare_4 rfl rfl ?_
  refine P_invVp 0 [(1, x1)] [] CVX3_compare MLX18_27 dX18_compare_5 rfl rfl rfl rfl rfl (by omega) h (fun r h => F_X3_compare (by omega) h) (fun v2 h => ?_)
  refine S_istore dX18_compare_8 (Nat.le_of_ble_eq_true rfl) rfl rfl ?_
  change Sem g d YX18_compare 10 [(1, x0), (1, x1), (0, x2), (0, x3), (0, v2)] [] M o
  refine S_iload dX18_compare_10 rfl ?_
  refine P_if_eq (tgt := 18) dX18_compare_12 rfl h (fun h => ?_) (fun h => ?_)
  · refine S_aload_n (i := 0) dX18_compare_18 rfl rfl ?_
    refine P_gfi FLX18_31 rfl dX18_compare_19 h (fun v3 h => ?_)
    refine S_iload_n (i := 2) dX18_compare_22 rfl rfl ?_
    refine P_icmp_eq (tgt := 35) dX18_compare_23 rfl h (fun h => ?_) (fun h => ?_)
    · refine S_aload_n (i := 0) dX18_compare_35 rfl rfl ?_
      refine P_gfi FLX18_35 rfl dX18_compare_36 h (fun v4 h => ?_)
      refine S_iload_n (i := 3) dX18_compare_39 rfl rfl ?_
      refine S_isub dX18_compare_40 ?_
      refine S_weak (ls' := [(9, 0), (9, 0), (9, 0), (9, 0), (9, 0)]) ⟨Or.inl rfl, ⟨Or.inl rfl, ⟨Or.inl rfl, ⟨Or.inl rfl, ⟨Or.inl rfl, trivial⟩⟩⟩⟩⟩ ?_
      exact s_X18_compare_41 hD r0 h hz
    · refine S_aload_n (i := 0) dX18_compare_26 rfl rfl ?_
      refine P_gfi FLX18_31 rfl dX18_compare_27 h (fun v5 h => ?_)
      refine S_iload_n (i := 2) dX18_compare_30 rfl rfl ?_
      refine S_isub dX18_compare_31 ?_
      refine S_goto (tgt := 41) dX18_compare_32 rfl ?_
      refine S_weak (ls' := [(9, 0), (9, 0), (9, 0), (9, 0), (9, 0)]) ⟨Or.inl rfl, ⟨Or.inl rfl, ⟨Or.inl rfl, ⟨Or.inl rfl, ⟨Or.inl rfl, trivial⟩⟩⟩⟩⟩ ?_
      exact s_X18_compare_41 hD r0 h hz
  · refine S_iload dX18_compare_15 rfl ?_
    obtain rfl := r0 _ (some_P (P := fun r => P r) h hz)
    exact P_ret dX18_compare_17 rfl (Or.inl rfl)
theorem F_X18_compare {g : GG} {d : Nat} (hD : 3 ≤ d) {x0 x1 x2 x3 : Int} {M : MM} {r : Int} (h : f_X18_compare x0 x1 x2 x3 M = some r) : Sem g d YX18_compare 0 (ini YX18_compare [(1, x0), (1, x1), (0, x2), (0, x3)]) [] M ((0, r), M) := by
  change Sem g d YX18_compare 0 [(1, x0), (1, x1), (0, x2), (0, x3), (9, 0)] [] M ((0, r), M)
  exact s_X18_compare_0 hD (P := fun x => x = r) (fun q e => by rw [e]) h rfl
/-! PeerSearch$Store.place(LPeerSearch$Key;II)I -/
theorem dX18_place_0 : decode cX18_place 0 = .ok (.iconst 0, 1) := by decide +kernel
theorem dX18_place_1 : decode cX18_place 1 = .ok (.istore 4, 2) := by decide +kernel
theorem dX18_place_3 : decode cX18_place 3 = .ok (.aload_n 0, 1) := by decide +kernel
theorem dX18_place_4 : decode cX18_place 4 = .ok (.getfield 38, 3) := by decide +kernel
theorem dX18_place_7 : decode cX18_place 7 = .ok (.istore 5, 2) := by decide +kernel
theorem dX18_place_9 : decode cX18_place 9 = .ok (.iload 4, 2) := by decide +kernel
theorem dX18_place_11 : decode cX18_place 11 = .ok (.iload 5, 2) := by decide +kernel
theorem dX18_place_13 : decode cX18_place 13 = .ok (.if_icmp .ge 44, 3) := by decide +kernel
theorem dX18_place_16 : decode cX18_place 16 = .ok (.iload 4, 2) := by decide +kernel
theorem dX18_place_18 : decode cX18_place 18 = .ok (.iload 5, 2) := by decide +kernel
theorem dX18_place_20 : decode cX18_place 20 = .ok (.iadd, 1) := by decide +kernel
theorem dX18_place_21 : decode cX18_place 21 = .ok (.iconst 2, 1) := by decide +kernel
theorem dX18_place_22 : decode cX18_place 22 = .ok (.idiv, 1) := by decide +kernel
theorem dX18_place_23 : decode cX18_place 23 = .ok (.istore 6, 2) := by decide +kernel
theorem dX18_place_25 : decode cX18_place 25 = .ok (.aload_n 0, 1) := by decide +kernel
theorem dX18_place_26 : decode cX18_place 26 = .ok (.getfield 13, 3) := by decide +kernel
theorem dX18_place_29 : decode cX18_place 29 = .ok (.iload 6, 2) := by decide +kernel
theorem dX18_place_31 : decode cX18_place 31 = .ok (.aaload, 1) := by decide +kernel
theorem dX18_place_32 : decode cX18_place 32 = .ok (.aload_n 1, 1) := by decide +kernel
theorem dX18_place_33 : decode cX18_place 33 = .ok (.iload_n 2, 1) := by decide +kernel
theorem dX18_place_34 : decode cX18_place 34 = .ok (.iload_n 3, 1) := by decide +kernel
theorem dX18_place_35 : decode cX18_place 35 = .ok (.invokestatic 41, 3) := by decide +kernel
theorem dX18_place_38 : decode cX18_place 38 = .ok (.ifCond .ge 12, 3) := by decide +kernel
theorem dX18_place_41 : decode cX18_place 41 = .ok (.iload 6, 2) := by decide +kernel
theorem dX18_place_43 : decode cX18_place 43 = .ok (.iconst 1, 1) := by decide +kernel
theorem dX18_place_44 : decode cX18_place 44 = .ok (.iadd, 1) := by decide +kernel
theorem dX18_place_45 : decode cX18_place 45 = .ok (.istore 4, 2) := by decide +kernel
theorem dX18_place_47 : decode cX18_place 47 = .ok (.goto 7, 3) := by decide +kernel
theorem dX18_place_50 : decode cX18_place 50 = .ok (.iload 6, 2) := by decide +kernel
theorem dX18_place_52 : decode cX18_place 52 = .ok (.istore 5, 2) := by decide +kernel
theorem dX18_place_54 : decode cX18_place 54 = .ok (.goto (-45), 3) := by decide +kernel
theorem dX18_place_57 : decode cX18_place 57 = .ok (.iload 4, 2) := by decide +kernel
theorem dX18_place_59 : decode cX18_place 59 = .ok (.ireturn, 1) := by decide +kernel
def j_X18_place_54 (x0 x1 x2 x3 x4 x5 : Int) (M : MM) : Option ((Int × Int) ⊕ (Int)) :=
  cnt (x4, x5)
def b_X18_place_9 (x0 x1 x2 x3 x4 x5 : Int) (M : MM) : Option ((Int × Int) ⊕ (Int)) :=
  if w32 x4 < w32 x5 then
    (dvi (x4 + x5) 2).bind fun v1 =>
    (gfr 18 0 x0 M).bind fun v2 =>
    (lar 9 v2 v1 M).bind fun v3 =>
    (f_X18_compare v3 x1 x2 x3 M).bind fun v4 =>
    if w32 v4 < 0 then
      j_X18_place_54 x0 x1 x2 x3 (v1 + 1) x5 M
    else
      j_X18_place_54 x0 x1 x2 x3 x4 v1 M
  else
    xit (some x4)
def l_X18_place_9 (x0 x1 x2 x3 x4 x5 : Int) (M : MM) : Option (Int) := lpN (fun s : Int × Int => b_X18_place_9 x0 x1 x2 x3 s.1 s.2 M) FU (x4, x5)
def f_X18_place (x0 x1 x2 x3 : Int) (M : MM) : Option (Int) :=
  (gfi 18 1 x0 M).bind fun v1 =>
  l_X18_place_9 x0 x1 x2 x3 0 v1 M
theorem s_X18_place_54 {g : GG} {d : Nat} (hD : 4 ≤ d) {x0 x1 x2 x3 x4 x5 : Int} {M : MM} {o : AV × MM} {P : ((Int × Int) ⊕ (Int)) → Prop} (c0 : ∀ s : Int × Int, P (.inl s) → Sem g d YX18_place 9 [(1, x0), (1, x1), (0, x2), (0, x3), (0, s.1), (0, s.2), (9, 0)] [] M o) (r0 : ∀ r : Int, P (.inr r) → o = ((0, r), M)) {z : (Int × Int) ⊕ (Int)} (h : j_X18_place_54 x0 x1 x2 x3 x4 x5 M = some z) (hz : P z) : Sem g d YX18_place 54 [(1, x0), (1, x1), (0, x2), (0, x3), (0, x4), (0, x5), (9, 0)] [] M o := by
  delta j_X18_place_54 at h
  refine S_goto (tgt := 9) dX18_place_54 rfl ?_
  exact c0 (x4, x5) (some_P (P := fun r => P r) h hz)
theorem s_X18_place_9 {g : GG} {d : Nat} (hD : 4 ≤ d) {x0 x1 x2 x3 x4 x5 : Int} {M : MM} {o : AV × MM} {P : ((Int × Int) ⊕ (Int)) → Prop} (c0 : ∀ s : Int × Int, P (.inl s) → Sem g d YX18_place 9 [(1, x0), (1, x1), (0, x2), (0, x3), (0, s.1), (0, s.2), (9, 0)] [] M o) (r0 : ∀ r : Int, P (.inr r) → o = ((0, r), M)) {z : (Int × Int) ⊕ (Int)} (h : b_X18_place_9 x0 x1 x2 x3 x4 x5 M = some z) (hz : P z) : Sem g d YX18_place 9 [(1, x0), (1, x1), (0, x2), (0, x3), (0, x4), (0, x5), (9, 0)] [] M o := by
  delta b_X18_place_9 at h
  refine S_iload dX18_place_9 rfl ?_
  refine S_iload dX18_place_11 rfl ?_
  refine P_icmp_ge (tgt := 57) dX18_place_13 rfl h (fun h => ?_) (fun h => ?_)
  · obtain ⟨z0, h, hz⟩ := xit_some' (P := fun r => P r) h hz
    refine S_iload dX18_place_57 rfl ?_
    obtain rfl := r0 _ (some_P (P := fun r => P (.inr r)) h hz)
    exact P_ret dX18_place_59 rfl (Or.inl rfl)
  · refine S_iload dX18_place_16 rfl ?_
    refine S_iload dX18_place_18 rfl ?_
    refine S_iadd dX18_place_20 ?_
    refine S_iconst dX18_place_21 rfl ?_
    refine P_dvi dX18_place_22 h (fun v1 h => ?_)
    refine S_istore dX18_place_23 (Nat.le_of_ble_eq_true rfl) rfl rfl ?_
    change Sem g d YX18_place 25 [(1, x0), (1, x1), (0, x2), (0, x3), (0, x4), (0, x5), (0, v1)] [] M o
    refine S_aload_n (i := 0) dX18_place_25 rfl rfl ?_
    refine P_gfr FLX18_13 rfl dX18_place_26 h (fun v2 h => ?_)
    refine S_iload dX18_place_29 rfl ?_
    refine P_lar (t := 9) ⟨by decide, by decide⟩ dX18_place_31 h (fun v3 h => ?_)
    refine S_aload_n (i := 1) dX18_place_32 rfl rfl ?_
    refine S_iload_n (i := 2) dX18_place_33 rfl rfl ?_
    refine S_iload_n (i := 3) dX18_place_34 rfl rfl ?_
    refine P_invSp 0 [(1, v3), (1, x1), (0, x2), (0, x3)] [] CSX18_compare MLX18_41 dX18_place_35 rfl rfl rfl rfl rfl (by omega) h (fun r h => F_X18_compare (by omega) h) (fun v4 h => ?_)
    refine P_if_ge (tgt := 50) dX18_place_38 rfl h (fun h => ?_) (fun h => ?_)
    · refine S_iload dX18_place_50 rfl ?_
      refine S_istore dX18_place_52 (Nat.le_of_ble_eq_true rfl) rfl rfl ?_
      change Sem g d YX18_place 54 [(1, x0), (1, x1), (0, x2), (0, x3), (0, x4), (0, v1), (0, v1)] [] M o
      refine S_weak (ls' := [(1, x0), (1, x1), (0, x2), (0, x3), (0, x4), (0, v1), (9, 0)]) ⟨Or.inr rfl, ⟨Or.inr rfl, ⟨Or.inr rfl, ⟨Or.inr rfl, ⟨Or.inr rfl, ⟨Or.inr rfl, ⟨Or.inl rfl, trivial⟩⟩⟩⟩⟩⟩⟩ ?_
      exact s_X18_place_54 hD c0 r0 h hz
    · refine S_iload dX18_place_41 rfl ?_
      refine S_iconst dX18_place_43 rfl ?_
      refine S_iadd dX18_place_44 ?_
      refine S_istore dX18_place_45 (Nat.le_of_ble_eq_true rfl) rfl rfl ?_
      change Sem g d YX18_place 47 [(1, x0), (1, x1), (0, x2), (0, x3), (0, v1 + 1), (0, x5), (0, v1)] [] M o
      refine S_goto (tgt := 54) dX18_place_47 rfl ?_
      refine S_weak (ls' := [(1, x0), (1, x1), (0, x2), (0, x3), (0, v1 + 1), (0, x5), (9, 0)]) ⟨Or.inr rfl, ⟨Or.inr rfl, ⟨Or.inr rfl, ⟨Or.inr rfl, ⟨Or.inr rfl, ⟨Or.inr rfl, ⟨Or.inl rfl, trivial⟩⟩⟩⟩⟩⟩⟩ ?_
      exact s_X18_place_54 hD c0 r0 h hz
theorem sl_X18_place_9 {g : GG} {d : Nat} (hD : 4 ≤ d) {x0 x1 x2 x3 x4 x5 : Int} {M : MM} {o : AV × MM} {P : (Int) → Prop} (r0 : ∀ r : Int, P r → o = ((0, r), M)) {z : Int} (h : l_X18_place_9 x0 x1 x2 x3 x4 x5 M = some z) (hz : P z) : Sem g d YX18_place 9 [(1, x0), (1, x1), (0, x2), (0, x3), (0, x4), (0, x5), (9, 0)] [] M o := by
  refine lp_sound (S := fun s : Int × Int => Sem g d YX18_place 9 [(1, x0), (1, x1), (0, x2), (0, x3), (0, s.1), (0, s.2), (9, 0)] [] M o) (P := P) ?_ FU (x4, x5) z h hz
  intro s x hx hP
  exact s_X18_place_9 hD (P := Sum.elim (fun s : Int × Int => Sem g d YX18_place 9 [(1, x0), (1, x1), (0, x2), (0, x3), (0, s.1), (0, s.2), (9, 0)] [] M o) P) (fun s h => h) (fun s h => r0 s h) hx hP
theorem s_X18_place_0 {g : GG} {d : Nat} (hD : 4 ≤ d) {x0 x1 x2 x3 : Int} {M : MM} {o : AV × MM} {P : (Int) → Prop} (r0 : ∀ r : Int, P r → o = ((0, r), M)) {z : Int} (h : f_X18_place x0 x1 x2 x3 M = some z) (hz : P z) : Sem g d YX18_place 0 [(1, x0), (1, x1), (0, x2), (0, x3), (9, 0), (9, 0), (9, 0)] [] M o := by
  delta f_X18_place at h
  refine S_iconst dX18_place_0 rfl ?_
  refine S_istore dX18_place_1 (Nat.le_of_ble_eq_true rfl) rfl rfl ?_
  change Sem g d YX18_place 3 [(1, x0), (1, x1), (0, x2), (0, x3), (0, 0), (9, 0), (9, 0)] [] M o
  refine S_aload_n (i := 0) dX18_place_3 rfl rfl ?_
  refine P_gfi FLX18_38 rfl dX18_place_4 h (fun v1 h => ?_)
  refine S_istore dX18_place_7 (Nat.le_of_ble_eq_true rfl) rfl rfl ?_
  change Sem g d YX18_place 9 [(1, x0), (1, x1), (0, x2), (0, x3), (0, 0), (0, v1), (9, 0)] [] M o
  exact sl_X18_place_9 hD r0 h hz
theorem F_X18_place {g : GG} {d : Nat} (hD : 4 ≤ d) {x0 x1 x2 x3 : Int} {M : MM} {r : Int} (h : f_X18_place x0 x1 x2 x3 M = some r) : Sem g d YX18_place 0 (ini YX18_place [(1, x0), (1, x1), (0, x2), (0, x3)]) [] M ((0, r), M) := by
  change Sem g d YX18_place 0 [(1, x0), (1, x1), (0, x2), (0, x3), (9, 0), (9, 0), (9, 0)] [] M ((0, r), M)
  exact s_X18_place_0 hD (P := fun x => x = r) (fun q e => by rw [e]) h rfl
/-! PeerSearch$Store.first(LPeerSearch$Key;)I -/
theorem dX18_first_0 : decode cX18_first 0 = .ok (.aload_n 0, 1) := by decide +kernel
theorem dX18_first_1 : decode cX18_first 1 = .ok (.aload_n 1, 1) := by decide +kernel
theorem dX18_first_2 : decode cX18_first 2 = .ok (.iconst 0, 1) := by decide +kernel
theorem dX18_first_3 : decode cX18_first 3 = .ok (.iconst 0, 1) := by decide +kernel
theorem dX18_first_4 : decode cX18_first 4 = .ok (.invokevirtual 44, 3) := by decide +kernel
theorem dX18_first_7 : decode cX18_first 7 = .ok (.ireturn, 1) := by decide +kernel
def f_X18_first (x0 x1 : Int) (M : MM) : Option (Int) :=
  ck 18 x0 M <| (f_X18_place x0 x1 0 0 M).bind fun v1 =>
  some v1
theorem s_X18_first_0 {g : GG} {d : Nat} (hD : 5 ≤ d) {x0 x1 : Int} {M : MM} {o : AV × MM} {P : (Int) → Prop} (r0 : ∀ r : Int, P r → o = ((0, r), M)) {z : Int} (h : f_X18_first x0 x1 M = some z) (hz : P z) : Sem g d YX18_first 0 [(1, x0), (1, x1)] [] M o := by
  delta f_X18_first at h
  refine S_aload_n (i := 0) dX18_first_0 rfl rfl ?_
  refine S_aload_n (i := 1) dX18_first_1 rfl rfl ?_
  refine S_iconst dX18_first_2 rfl ?_
  refine S_iconst dX18_first_3 rfl ?_
  refine P_invVp 0 [(1, x1), (0, 0), (0, 0)] [] CVX18_place MLX18_44 dX18_first_4 rfl rfl rfl rfl rfl (by omega) h (fun r h => F_X18_place (by omega) h) (fun v1 h => ?_)
  obtain rfl := r0 _ (some_P (P := fun r => P r) h hz)
  exact P_ret dX18_first_7 rfl (Or.inl rfl)
theorem F_X18_first {g : GG} {d : Nat} (hD : 5 ≤ d) {x0 x1 : Int} {M : MM} {r : Int} (h : f_X18_first x0 x1 M = some r) : Sem g d YX18_first 0 (ini YX18_first [(1, x0), (1, x1)]) [] M ((0, r), M) := by
  change Sem g d YX18_first 0 [(1, x0), (1, x1)] [] M ((0, r), M)
  exact s_X18_first_0 hD (P := fun x => x = r) (fun q e => by rw [e]) h rfl
/-! PeerSearch$Store.count(LPeerSearch$Key;)I -/
theorem dX18_count_0 : decode cX18_count 0 = .ok (.aload_n 0, 1) := by decide +kernel
theorem dX18_count_1 : decode cX18_count 1 = .ok (.aload_n 1, 1) := by decide +kernel
theorem dX18_count_2 : decode cX18_count 2 = .ok (.bipush 32, 2) := by decide +kernel
theorem dX18_count_4 : decode cX18_count 4 = .ok (.iconst 0, 1) := by decide +kernel
theorem dX18_count_5 : decode cX18_count 5 = .ok (.invokevirtual 44, 3) := by decide +kernel
theorem dX18_count_8 : decode cX18_count 8 = .ok (.aload_n 0, 1) := by decide +kernel
theorem dX18_count_9 : decode cX18_count 9 = .ok (.aload_n 1, 1) := by decide +kernel
theorem dX18_count_10 : decode cX18_count 10 = .ok (.invokevirtual 48, 3) := by decide +kernel
theorem dX18_count_13 : decode cX18_count 13 = .ok (.isub, 1) := by decide +kernel
theorem dX18_count_14 : decode cX18_count 14 = .ok (.ireturn, 1) := by decide +kernel
def f_X18_count (x0 x1 : Int) (M : MM) : Option (Int) :=
  ck 18 x0 M <| (f_X18_place x0 x1 32 0 M).bind fun v1 =>
  ck 18 x0 M <| (f_X18_first x0 x1 M).bind fun v2 =>
  some (v1 - v2)
theorem s_X18_count_0 {g : GG} {d : Nat} (hD : 6 ≤ d) {x0 x1 : Int} {M : MM} {o : AV × MM} {P : (Int) → Prop} (r0 : ∀ r : Int, P r → o = ((0, r), M)) {z : Int} (h : f_X18_count x0 x1 M = some z) (hz : P z) : Sem g d YX18_count 0 [(1, x0), (1, x1)] [] M o := by
  delta f_X18_count at h
  refine S_aload_n (i := 0) dX18_count_0 rfl rfl ?_
  refine S_aload_n (i := 1) dX18_count_1 rfl rfl ?_
  refine S_bipush (z := 32) dX18_count_2 rfl ?_
  refine S_iconst dX18_count_4 rfl ?_
  refine P_invVp 0 [(1, x1), (0, 32), (0, 0)] [] CVX18_place MLX18_44 dX18_count_5 rfl rfl rfl rfl rfl (by omega) h (fun r h => F_X18_place (by omega) h) (fun v1 h => ?_)
  refine S_aload_n (i := 0) dX18_count_8 rfl rfl ?_
  refine S_aload_n (i := 1) dX18_count_9 rfl rfl ?_
  refine P_invVp 0 [(1, x1)] [(0, v1)] CVX18_first MLX18_48 dX18_count_10 rfl rfl rfl rfl rfl (by omega) h (fun r h => F_X18_first (by omega) h) (fun v2 h => ?_)
  refine S_isub dX18_count_13 ?_
  obtain rfl := r0 _ (some_P (P := fun r => P r) h hz)
  exact P_ret dX18_count_14 rfl (Or.inl rfl)
theorem F_X18_count {g : GG} {d : Nat} (hD : 6 ≤ d) {x0 x1 : Int} {M : MM} {r : Int} (h : f_X18_count x0 x1 M = some r) : Sem g d YX18_count 0 (ini YX18_count [(1, x0), (1, x1)]) [] M ((0, r), M) := by
  change Sem g d YX18_count 0 [(1, x0), (1, x1)] [] M ((0, r), M)
  exact s_X18_count_0 hD (P := fun x => x = r) (fun q e => by rw [e]) h rfl
/-! PeerSearch$Peer.putBits(LPeerSearch$Packet;LPeerSearch$Key;)V -/
theorem dX17_putBits_0 : decode cX17_putBits 0 = .ok (.aload_n 0, 1) := by decide +kernel
theorem dX17_putBits_1 : decode cX17_putBits 1 = .ok (.getfield 21, 3) := by decide +kernel
theorem dX17_putBits_4 : decode cX17_putBits 4 = .ok (.aload_n 2, 1) := by decide +kernel
theorem dX17_putBits_5 : decode cX17_putBits 5 = .ok (.invokevirtual 280, 3) := by decide +kernel
theorem dX17_putBits_8 : decode cX17_putBits 8 = .ok (.istore_n 3, 1) := by decide +kernel
theorem dX17_putBits_9 : decode cX17_putBits 9 = .ok (.aload_n 0, 1) := by decide +kernel
theorem dX17_putBits_10 : decode cX17_putBits 10 = .ok (.getfield 21, 3) := by decide +kernel
theorem dX17_putBits_13 : decode cX17_putBits 13 = .ok (.aload_n 2, 1) := by decide +kernel
theorem dX17_putBits_14 : decode cX17_putBits 14 = .ok (.invokevirtual 316, 3) := by decide +kernel
theorem dX17_putBits_17 : decode cX17_putBits 17 = .ok (.istore 4, 2) := by decide +kernel
theorem dX17_putBits_19 : decode cX17_putBits 19 = .ok (.aload_n 0, 1) := by decide +kernel
theorem dX17_putBits_20 : decode cX17_putBits 20 = .ok (.getfield 42, 3) := by decide +kernel
theorem dX17_putBits_23 : decode cX17_putBits 23 = .ok (.getfield 319, 3) := by decide +kernel
theorem dX17_putBits_26 : decode cX17_putBits 26 = .ok (.iload_n 3, 1) := by decide +kernel
theorem dX17_putBits_27 : decode cX17_putBits 27 = .ok (.aload_n 0, 1) := by decide +kernel
theorem dX17_putBits_28 : decode cX17_putBits 28 = .ok (.getfield 42, 3) := by decide +kernel
theorem dX17_putBits_31 : decode cX17_putBits 31 = .ok (.getfield 83, 3) := by decide +kernel
theorem dX17_putBits_34 : decode cX17_putBits 34 = .ok (.bipush 9, 2) := by decide +kernel
theorem dX17_putBits_36 : decode cX17_putBits 36 = .ok (.invokevirtual 171, 3) := by decide +kernel
theorem dX17_putBits_39 : decode cX17_putBits 39 = .ok (.invokevirtual 323, 3) := by decide +kernel
theorem dX17_putBits_42 : decode cX17_putBits 42 = .ok (.iload 4, 2) := by decide +kernel
theorem dX17_putBits_44 : decode cX17_putBits 44 = .ok (.istore 5, 2) := by decide +kernel
theorem dX17_putBits_46 : decode cX17_putBits 46 = .ok (.iload 5, 2) := by decide +kernel
theorem dX17_putBits_48 : decode cX17_putBits 48 = .ok (.iload 4, 2) := by decide +kernel
theorem dX17_putBits_50 : decode cX17_putBits 50 = .ok (.iload_n 3, 1) := by decide +kernel
theorem dX17_putBits_51 : decode cX17_putBits 51 = .ok (.iadd, 1) := by decide +kernel
theorem dX17_putBits_52 : decode cX17_putBits 52 = .ok (.if_icmp .ge 45, 3) := by decide +kernel
theorem dX17_putBits_55 : decode cX17_putBits 55 = .ok (.aload_n 0, 1) := by decide +kernel
theorem dX17_putBits_56 : decode cX17_putBits 56 = .ok (.getfield 42, 3) := by decide +kernel
theorem dX17_putBits_59 : decode cX17_putBits 59 = .ok (.getfield 319, 3) := by decide +kernel
theorem dX17_putBits_62 : decode cX17_putBits 62 = .ok (.aload_n 0, 1) := by decide +kernel
theorem dX17_putBits_63 : decode cX17_putBits 63 = .ok (.getfield 21, 3) := by decide +kernel
theorem dX17_putBits_66 : decode cX17_putBits 66 = .ok (.getfield 327, 3) := by decide +kernel
theorem dX17_putBits_69 : decode cX17_putBits 69 = .ok (.iload 5, 2) := by decide +kernel
theorem dX17_putBits_71 : decode cX17_putBits 71 = .ok (.aaload, 1) := by decide +kernel
theorem dX17_putBits_72 : decode cX17_putBits 72 = .ok (.getfield 331, 3) := by decide +kernel
theorem dX17_putBits_75 : decode cX17_putBits 75 = .ok (.aload_n 0, 1) := by decide +kernel
theorem dX17_putBits_76 : decode cX17_putBits 76 = .ok (.getfield 21, 3) := by decide +kernel
theorem dX17_putBits_79 : decode cX17_putBits 79 = .ok (.getfield 327, 3) := by decide +kernel
theorem dX17_putBits_82 : decode cX17_putBits 82 = .ok (.iload 5, 2) := by decide +kernel
theorem dX17_putBits_84 : decode cX17_putBits 84 = .ok (.aaload, 1) := by decide +kernel
theorem dX17_putBits_85 : decode cX17_putBits 85 = .ok (.getfield 336, 3) := by decide +kernel
theorem dX17_putBits_88 : decode cX17_putBits 88 = .ok (.invokevirtual 339, 3) := by decide +kernel
theorem dX17_putBits_91 : decode cX17_putBits 91 = .ok (.iinc 5 1, 3) := by decide +kernel
theorem dX17_putBits_94 : decode cX17_putBits 94 = .ok (.goto (-48), 3) := by decide +kernel
theorem dX17_putBits_97 : decode cX17_putBits 97 = .ok (.aload_n 1, 1) := by decide +kernel
theorem dX17_putBits_98 : decode cX17_putBits 98 = .ok (.iload_n 3, 1) := by decide +kernel
theorem dX17_putBits_99 : decode cX17_putBits 99 = .ok (.iconst 2, 1) := by decide +kernel
theorem dX17_putBits_100 : decode cX17_putBits 100 = .ok (.invokevirtual 284, 3) := by decide +kernel
theorem dX17_putBits_103 : decode cX17_putBits 103 = .ok (.aload_n 0, 1) := by decide +kernel
theorem dX17_putBits_104 : decode cX17_putBits 104 = .ok (.getfield 42, 3) := by decide +kernel
theorem dX17_putBits_107 : decode cX17_putBits 107 = .ok (.getfield 319, 3) := by decide +kernel
theorem dX17_putBits_110 : decode cX17_putBits 110 = .ok (.aload_n 1, 1) := by decide +kernel
theorem dX17_putBits_111 : decode cX17_putBits 111 = .ok (.invokevirtual 342, 3) := by decide +kernel
theorem dX17_putBits_114 : decode cX17_putBits 114 = .ok (.return_, 1) := by decide +kernel
def j_X17_putBits_97 (x0 x1 x3 : Int) (M : MM) : Option (MM) :=
  ck 4 x1 M <| (f_X4_put x1 x3 2 M).bind fun M1 =>
  (gfr 17 0 x0 M1).bind fun v1 =>
  (gfr 6 10 v1 M1).bind fun v2 =>
  ck 10 v2 M1 <| (f_X10_write v2 x1 M1).bind fun M2 =>
  some M2
def b_X17_putBits_46 (x0 x1 x3 x4 x5 : Int) (M : MM) : Option ((Int × MM) ⊕ (MM)) :=
  if w32 x5 < w32 (x4 + x3) then
    (gfr 17 0 x0 M).bind fun v1 =>
    (gfr 6 10 v1 M).bind fun v2 =>
    (gfr 17 6 x0 M).bind fun v3 =>
    (gfr 18 0 v3 M).bind fun v4 =>
    (lar 9 v4 x5 M).bind fun v5 =>
    (gfi 28 1 v5 M).bind fun v6 =>
    (gfr 17 6 x0 M).bind fun v7 =>
    (gfr 18 0 v7 M).bind fun v8 =>
    (lar 9 v8 x5 M).bind fun v9 =>
    (gfi 28 2 v9 M).bind fun v10 =>
    ck 10 v2 M <| (f_X10_add v2 v6 v10 M).bind fun M1 =>
    cnt (x5 + 1, M1)
  else
    xit (j_X17_putBits_97 x0 x1 x3 M)
def l_X17_putBits_46 (x0 x1 x3 x4 x5 : Int) (M : MM) : Option (MM) := lpN (fun s : Int × MM => b_X17_putBits_46 x0 x1 x3 x4 s.1 s.2) FU (x5, M)
def f_X17_putBits (x0 x1 x2 : Int) (M : MM) : Option (MM) :=
  (gfr 17 6 x0 M).bind fun v1 =>
  ck 18 v1 M <| (f_X18_count v1 x2 M).bind fun v2 =>
  (gfr 17 6 x0 M).bind fun v3 =>
  ck 18 v3 M <| (f_X18_first v3 x2 M).bind fun v4 =>
  (gfr 17 0 x0 M).bind fun v5 =>
  (gfr 6 10 v5 M).bind fun v6 =>
  (gfr 17 0 x0 M).bind fun v7 =>
  (gfr 6 2 v7 M).bind fun v8 =>
  ck 7 v8 M <| (f_X7_setting v8 9 M).bind fun v9 =>
  ck 10 v6 M <| (f_X10_begin v6 v2 v9 M).bind fun M1 =>
  l_X17_putBits_46 x0 x1 v2 v4 v4 M1
theorem s_X17_putBits_97 {g : GG} {d : Nat} (hD : 7 ≤ d) {x0 x1 x3 : Int} {M : MM} {o : AV × MM} {P : (MM) → Prop} (r0 : ∀ r : MM, P r → o = ((9, 0), r)) {z : MM} (h : j_X17_putBits_97 x0 x1 x3 M = some z) (hz : P z) : Sem g d YX17_putBits 97 [(1, x0), (1, x1), (9, 0), (0, x3), (9, 0), (9, 0)] [] M o := by
  delta j_X17_putBits_97 at h
  refine S_aload_n (i := 1) dX17_putBits_97 rfl rfl ?_
  refine S_iload_n (i := 3) dX17_putBits_98 rfl rfl ?_
  refine S_iconst dX17_putBits_99 rfl ?_
  refine P_invVm' [(0, x3), (0, 2)] [] CVX4_put MLX17_284 dX17_putBits_100 rfl rfl rfl rfl (by omega) h (fun r h => F_X4_put (by omega) h) (fun M1 h => ?_)
  refine S_aload_n (i := 0) dX17_putBits_103 rfl rfl ?_
  refine P_gfr FLX17_42 rfl dX17_putBits_104 h (fun v1 h => ?_)
  refine P_gfr FLX17_319 rfl dX17_putBits_107 h (fun v2 h => ?_)
  refine S_aload_n (i := 1) dX17_putBits_110 rfl rfl ?_
  refine P_invVm' [(1, x1)] [] CVX10_write MLX17_342 dX17_putBits_111 rfl rfl rfl rfl (by omega) h (fun r h => F_X10_write (by omega) h) (fun M2 h => ?_)
  obtain rfl := r0 _ (some_P (P := fun r => P r) h hz)
  exact S_return dX17_putBits_114 rfl
theorem s_X17_putBits_46 {g : GG} {d : Nat} (hD : 7 ≤ d) {x0 x1 x3 x4 x5 : Int} {M : MM} {o : AV × MM} {P : ((Int × MM) ⊕ (MM)) → Prop} (c0 : ∀ s : Int × MM, P (.inl s) → Sem g d YX17_putBits 46 [(1, x0), (1, x1), (9, 0), (0, x3), (0, x4), (0, s.1)] [] s.2 o) (r0 : ∀ r : MM, P (.inr r) → o = ((9, 0), r)) {z : (Int × MM) ⊕ (MM)} (h : b_X17_putBits_46 x0 x1 x3 x4 x5 M = some z) (hz : P z) : Sem g d YX17_putBits 46 [(1, x0), (1, x1), (9, 0), (0, x3), (0, x4), (0, x5)] [] M o := by
  delta b_X17_putBits_46 at h
  refine S_iload dX17_putBits_46 rfl ?_
  refine S_iload dX17_putBits_48 rfl ?_
  refine S_iload_n (i := 3) dX17_putBits_50 rfl rfl ?_
  refine S_iadd dX17_putBits_51 ?_
  refine P_icmp_ge (tgt := 97) dX17_putBits_52 rfl h (fun h => ?_) (fun h => ?_)
  · refine S_weak (ls' := [(1, x0), (1, x1), (9, 0), (0, x3), (9, 0), (9, 0)]) ⟨Or.inr rfl, ⟨Or.inr rfl, ⟨Or.inl rfl, ⟨Or.inr rfl, ⟨Or.inl rfl, ⟨Or.inl rfl, trivial⟩⟩⟩⟩⟩⟩ ?_
    obtain ⟨z0, h, hz⟩ := xit_some' (P := fun r => P r) h hz
    exact s_X17_putBits_97 hD (P := fun r => P (.inr r)) r0 h hz
  · refine S_aload_n (i := 0) dX17_putBits_55 rfl rfl ?_
    refine P_gfr FLX17_42 rfl dX17_putBits_56 h (fun v1 h => ?_)
    refine P_gfr FLX17_319 rfl dX17_putBits_59 h (fun v2 h => ?_)
    refine S_aload_n (i := 0) dX17_putBits_62 rfl rfl ?_
    refine P_gfr FLX17_21 rfl dX17_putBits_63 h (fun v3 h => ?_)
    refine P_gfr FLX17_327 rfl dX17_putBits_66 h (fun v4 h => ?_)
    refine S_iload dX17_putBits_69 rfl ?_
    refine P_lar (t := 9) ⟨by decide, by decide⟩ dX17_putBits_71 h (fun v5 h => ?_)
    refine P_gfi FLX17_331 rfl dX17_putBits_72 h (fun v6 h => ?_)
    refine S_aload_n (i := 0) dX17_putBits_75 rfl rfl ?_
    refine P_gfr FLX17_21 rfl dX17_putBits_76 h (fun v7 h => ?_)
    refine P_gfr FLX17_327 rfl dX17_putBits_79 h (fun v8 h => ?_)
    refine S_iload dX17_putBits_82 rfl ?_
    refine P_lar (t := 9) ⟨by decide, by decide⟩ dX17_putBits_84 h (fun v9 h => ?_)
    refine P_gfi FLX17_336 rfl dX17_putBits_85 h (fun v10 h => ?_)
    refine P_invVm' [(0, v6), (0, v10)] [] CVX10_add MLX17_339 dX17_putBits_88 rfl rfl rfl rfl (by omega) h (fun r h => F_X10_add (by omega) h) (fun M1 h => ?_)
    refine S_iinc dX17_putBits_91 rfl rfl rfl ?_
    change Sem g d YX17_putBits 94 [(1, x0), (1, x1), (9, 0), (0, x3), (0, x4), (0, x5 + 1)] [] M1 o
    refine S_goto (tgt := 46) dX17_putBits_94 rfl ?_
    exact c0 (x5 + 1, M1) (some_P (P := fun r => P r) h hz)
theorem sl_X17_putBits_46 {g : GG} {d : Nat} (hD : 7 ≤ d) {x0 x1 x3 x4 x5 : Int} {M : MM} {o : AV × MM} {P : (MM) → Prop} (r0 : ∀ r : MM, P r → o = ((9, 0), r)) {z : MM} (h : l_X17_putBits_46 x0 x1 x3 x4 x5 M = some z) (hz : P z) : Sem g d YX17_putBits 46 [(1, x0), (1, x1), (9, 0), (0, x3), (0, x4), (0, x5)] [] M o := by
  refine lp_sound (S := fun s : Int × MM => Sem g d YX17_putBits 46 [(1, x0), (1, x1), (9, 0), (0, x3), (0, x4), (0, s.1)] [] s.2 o) (P := P) ?_ FU (x5, M) z h hz
  intro s x hx hP
  exact s_X17_putBits_46 hD (P := Sum.elim (fun s : Int × MM => Sem g d YX17_putBits 46 [(1, x0), (1, x1), (9, 0), (0, x3), (0, x4), (0, s.1)] [] s.2 o) P) (fun s h => h) (fun s h => r0 s h) hx hP
theorem s_X17_putBits_0 {g : GG} {d : Nat} (hD : 7 ≤ d) {x0 x1 x2 : Int} {M : MM} {o : AV × MM} {P : (MM) → Prop} (r0 : ∀ r : MM, P r → o = ((9, 0), r)) {z : MM} (h : f_X17_putBits x0 x1 x2 M = some z) (hz : P z) : Sem g d YX17_putBits 0 [(1, x0), (1, x1), (1, x2), (9, 0), (9, 0), (9, 0)] [] M o := by
  delta f_X17_putBits at h
  refine S_aload_n (i := 0) dX17_putBits_0 rfl rfl ?_
  refine P_gfr FLX17_21 rfl dX17_putBits_1 h (fun v1 h => ?_)
  refine S_aload_n (i := 2) dX17_putBits_4 rfl rfl ?_
  refine P_invVp 0 [(1, x2)] [] CVX18_count MLX17_280 dX17_putBits_5 rfl rfl rfl rfl rfl (by omega) h (fun r h => F_X18_count (by omega) h) (fun v2 h => ?_)
  refine S_istore_n (i := 3) dX17_putBits_8 rfl (Nat.le_of_ble_eq_true rfl) rfl rfl ?_
  change Sem g d YX17_putBits 9 [(1, x0), (1, x1), (1, x2), (0, v2), (9, 0), (9, 0)] [] M o
  refine S_aload_n (i := 0) dX17_putBits_9 rfl rfl ?_
  refine P_gfr FLX17_21 rfl dX17_putBits_10 h (fun v3 h => ?_)
  refine S_aload_n (i := 2) dX17_putBits_13 rfl rfl ?_
  refine P_invVp 0 [(1, x2)] [] CVX18_first MLX17_316 dX17_putBits_14 rfl rfl rfl rfl rfl (by omega) h (fun r h => F_X18_first (by omega) h) (fun v4 h => ?_)
  refine S_istore dX17_putBits_17 (Nat.le_of_ble_eq_true rfl) rfl rfl ?_
  change Sem g d YX17_putBits 19 [(1, x0), (1, x1), (1, x2), (0, v2), (0, v4), (9, 0)] [] M o
  refine S_aload_n (i := 0) dX17_putBits_19 rfl rfl ?_
  refine P_gfr FLX17_42 rfl dX17_putBits_20 h (fun v5 h => ?_)
  refine P_gfr FLX17_319 rfl dX17_putBits_23 h (fun v6 h => ?_)
  refine S_iload_n (i := 3) dX17_putBits_26 rfl rfl ?_
  refine S_aload_n (i := 0) dX17_putBits_27 rfl rfl ?_
  refine P_gfr FLX17_42 rfl dX17_putBits_28 h (fun v7 h => ?_)
  refine P_gfr FLX17_83 rfl dX17_putBits_31 h (fun v8 h => ?_)
  refine S_bipush (z := 9) dX17_putBits_34 rfl ?_
  refine P_invVp 0 [(0, 9)] [(0, v2), (1, v6)] CVX7_setting MLX17_171 dX17_putBits_36 rfl rfl rfl rfl rfl (by omega) h (fun r h => F_X7_setting (by omega) h) (fun v9 h => ?_)
  refine P_invVm' [(0, v2), (0, v9)] [] CVX10_begin MLX17_323 dX17_putBits_39 rfl rfl rfl rfl (by omega) h (fun r h => F_X10_begin (by omega) h) (fun M1 h => ?_)
  refine S_iload dX17_putBits_42 rfl ?_
  refine S_istore dX17_putBits_44 (Nat.le_of_ble_eq_true rfl) rfl rfl ?_
  change Sem g d YX17_putBits 46 [(1, x0), (1, x1), (1, x2), (0, v2), (0, v4), (0, v4)] [] M1 o
  refine S_weak (ls' := [(1, x0), (1, x1), (9, 0), (0, v2), (0, v4), (0, v4)]) ⟨Or.inr rfl, ⟨Or.inr rfl, ⟨Or.inl rfl, ⟨Or.inr rfl, ⟨Or.inr rfl, ⟨Or.inr rfl, trivial⟩⟩⟩⟩⟩⟩ ?_
  exact sl_X17_putBits_46 hD r0 h hz
theorem F_X17_putBits {g : GG} {d : Nat} (hD : 7 ≤ d) {x0 x1 x2 : Int} {M : MM} {r : MM} (h : f_X17_putBits x0 x1 x2 M = some r) : Sem g d YX17_putBits 0 (ini YX17_putBits [(1, x0), (1, x1), (1, x2)]) [] M ((9, 0), r) := by
  change Sem g d YX17_putBits 0 [(1, x0), (1, x1), (1, x2), (9, 0), (9, 0), (9, 0)] [] M ((9, 0), r)
  exact s_X17_putBits_0 hD (P := fun x => x = r) (fun q e => by rw [e]) h rfl
/-! PeerSearch$Peer.putPosting(LPeerSearch$Packet;LPeerSearch$Posting;)V -/
theorem dX17_putPosting_0 : decode cX17_putPosting 0 = .ok (.aload_n 0, 1) := by decide +kernel
theorem dX17_putPosting_1 : decode cX17_putPosting 1 = .ok (.aload_n 1, 1) := by decide +kernel
theorem dX17_putPosting_2 : decode cX17_putPosting 2 = .ok (.getfield 331, 3) := by decide +kernel
theorem dX17_putPosting_5 : decode cX17_putPosting 5 = .ok (.iconst 1, 1) := by decide +kernel
theorem dX17_putPosting_6 : decode cX17_putPosting 6 = .ok (.invokevirtual 284, 3) := by decide +kernel
theorem dX17_putPosting_9 : decode cX17_putPosting 9 = .ok (.aload_n 0, 1) := by decide +kernel
theorem dX17_putPosting_10 : decode cX17_putPosting 10 = .ok (.aload_n 1, 1) := by decide +kernel
theorem dX17_putPosting_11 : decode cX17_putPosting 11 = .ok (.getfield 336, 3) := by decide +kernel
theorem dX17_putPosting_14 : decode cX17_putPosting 14 = .ok (.iconst 1, 1) := by decide +kernel
theorem dX17_putPosting_15 : decode cX17_putPosting 15 = .ok (.invokevirtual 284, 3) := by decide +kernel
theorem dX17_putPosting_18 : decode cX17_putPosting 18 = .ok (.aload_n 0, 1) := by decide +kernel
theorem dX17_putPosting_19 : decode cX17_putPosting 19 = .ok (.aload_n 1, 1) := by decide +kernel
theorem dX17_putPosting_20 : decode cX17_putPosting 20 = .ok (.getfield 345, 3) := by decide +kernel
theorem dX17_putPosting_23 : decode cX17_putPosting 23 = .ok (.iconst 1, 1) := by decide +kernel
theorem dX17_putPosting_24 : decode cX17_putPosting 24 = .ok (.invokevirtual 284, 3) := by decide +kernel
theorem dX17_putPosting_27 : decode cX17_putPosting 27 = .ok (.return_, 1) := by decide +kernel
def f_X17_putPosting (x0 x1 : Int) (M : MM) : Option (MM) :=
  (gfi 28 1 x1 M).bind fun v1 =>
  ck 4 x0 M <| (f_X4_put x0 v1 1 M).bind fun M1 =>
  (gfi 28 2 x1 M1).bind fun v2 =>
  ck 4 x0 M1 <| (f_X4_put x0 v2 1 M1).bind fun M2 =>
  (gfi 28 3 x1 M2).bind fun v3 =>
  ck 4 x0 M2 <| (f_X4_put x0 v3 1 M2).bind fun M3 =>
  some M3
theorem s_X17_putPosting_0 {g : GG} {d : Nat} (hD : 1 ≤ d) {x0 x1 : Int} {M : MM} {o : AV × MM} {P : (MM) → Prop} (r0 : ∀ r : MM, P r → o = ((9, 0), r)) {z : MM} (h : f_X17_putPosting x0 x1 M = some z) (hz : P z) : Sem g d YX17_putPosting 0 [(1, x0), (1, x1)] [] M o := by
  delta f_X17_putPosting at h
  refine S_aload_n (i := 0) dX17_putPosting_0 rfl rfl ?_
  refine S_aload_n (i := 1) dX17_putPosting_1 rfl rfl ?_
  refine P_gfi FLX17_331 rfl dX17_putPosting_2 h (fun v1 h => ?_)
  refine S_iconst dX17_putPosting_5 rfl ?_
  refine P_invVm' [(0, v1), (0, 1)] [] CVX4_put MLX17_284 dX17_putPosting_6 rfl rfl rfl rfl (by omega) h (fun r h => F_X4_put (by omega) h) (fun M1 h => ?_)
  refine S_aload_n (i := 0) dX17_putPosting_9 rfl rfl ?_
  refine S_aload_n (i := 1) dX17_putPosting_10 rfl rfl ?_
  refine P_gfi FLX17_336 rfl dX17_putPosting_11 h (fun v2 h => ?_)
  refine S_iconst dX17_putPosting_14 rfl ?_
  refine P_invVm' [(0, v2), (0, 1)] [] CVX4_put MLX17_284 dX17_putPosting_15 rfl rfl rfl rfl (by omega) h (fun r h => F_X4_put (by omega) h) (fun M2 h => ?_)
  refine S_aload_n (i := 0) dX17_putPosting_18 rfl rfl ?_
  refine S_aload_n (i := 1) dX17_putPosting_19 rfl rfl ?_
  refine P_gfi FLX17_345 rfl dX17_putPosting_20 h (fun v3 h => ?_)
  refine S_iconst dX17_putPosting_23 rfl ?_
  refine P_invVm' [(0, v3), (0, 1)] [] CVX4_put MLX17_284 dX17_putPosting_24 rfl rfl rfl rfl (by omega) h (fun r h => F_X4_put (by omega) h) (fun M3 h => ?_)
  obtain rfl := r0 _ (some_P (P := fun r => P r) h hz)
  exact S_return dX17_putPosting_27 rfl
theorem F_X17_putPosting {g : GG} {d : Nat} (hD : 1 ≤ d) {x0 x1 : Int} {M : MM} {r : MM} (h : f_X17_putPosting x0 x1 M = some r) : Sem g d YX17_putPosting 0 (ini YX17_putPosting [(1, x0), (1, x1)]) [] M ((9, 0), r) := by
  change Sem g d YX17_putPosting 0 [(1, x0), (1, x1)] [] M ((9, 0), r)
  exact s_X17_putPosting_0 hD (P := fun x => x = r) (fun q e => by rw [e]) h rfl
/-! PeerSearch$Store.find(LPeerSearch$Key;II)I -/
theorem dX18_find_0 : decode cX18_find 0 = .ok (.aload_n 0, 1) := by decide +kernel
theorem dX18_find_1 : decode cX18_find 1 = .ok (.aload_n 1, 1) := by decide +kernel
theorem dX18_find_2 : decode cX18_find 2 = .ok (.iload_n 2, 1) := by decide +kernel
theorem dX18_find_3 : decode cX18_find 3 = .ok (.iload_n 3, 1) := by decide +kernel
theorem dX18_find_4 : decode cX18_find 4 = .ok (.invokevirtual 44, 3) := by decide +kernel
theorem dX18_find_7 : decode cX18_find 7 = .ok (.istore 4, 2) := by decide +kernel
theorem dX18_find_9 : decode cX18_find 9 = .ok (.iload 4, 2) := by decide +kernel
theorem dX18_find_11 : decode cX18_find 11 = .ok (.aload_n 0, 1) := by decide +kernel
theorem dX18_find_12 : decode cX18_find 12 = .ok (.getfield 38, 3) := by decide +kernel
theorem dX18_find_15 : decode cX18_find 15 = .ok (.if_icmp .ge 24, 3) := by decide +kernel
theorem dX18_find_18 : decode cX18_find 18 = .ok (.aload_n 0, 1) := by decide +kernel
theorem dX18_find_19 : decode cX18_find 19 = .ok (.getfield 13, 3) := by decide +kernel
theorem dX18_find_22 : decode cX18_find 22 = .ok (.iload 4, 2) := by decide +kernel
theorem dX18_find_24 : decode cX18_find 24 = .ok (.aaload, 1) := by decide +kernel
theorem dX18_find_25 : decode cX18_find 25 = .ok (.aload_n 1, 1) := by decide +kernel
theorem dX18_find_26 : decode cX18_find 26 = .ok (.iload_n 2, 1) := by decide +kernel
theorem dX18_find_27 : decode cX18_find 27 = .ok (.iload_n 3, 1) := by decide +kernel
theorem dX18_find_28 : decode cX18_find 28 = .ok (.invokestatic 41, 3) := by decide +kernel
theorem dX18_find_31 : decode cX18_find 31 = .ok (.ifCond .ne 8, 3) := by decide +kernel
theorem dX18_find_34 : decode cX18_find 34 = .ok (.iload 4, 2) := by decide +kernel
theorem dX18_find_36 : decode cX18_find 36 = .ok (.goto 4, 3) := by decide +kernel
theorem dX18_find_39 : decode cX18_find 39 = .ok (.iconst (-1), 1) := by decide +kernel
theorem dX18_find_40 : decode cX18_find 40 = .ok (.ireturn, 1) := by decide +kernel
def j_X18_find_40 (y0 : Int) (M : MM) : Option (Int) :=
  some y0
def j_X18_find_39 (M : MM) : Option (Int) :=
  j_X18_find_40 (-1) M
def f_X18_find (x0 x1 x2 x3 : Int) (M : MM) : Option (Int) :=
  ck 18 x0 M <| (f_X18_place x0 x1 x2 x3 M).bind fun v1 =>
  (gfi 18 1 x0 M).bind fun v2 =>
  if w32 v1 < w32 v2 then
    (gfr 18 0 x0 M).bind fun v3 =>
    (lar 9 v3 v1 M).bind fun v4 =>
    (f_X18_compare v4 x1 x2 x3 M).bind fun v5 =>
    if w32 v5 = 0 then
      j_X18_find_40 v1 M
    else
      j_X18_find_39 M
  else
    j_X18_find_39 M
theorem s_X18_find_40 {g : GG} {d : Nat} (hD : 5 ≤ d) {y0 : Int} {M : MM} {o : AV × MM} {P : (Int) → Prop} (r0 : ∀ r : Int, P r → o = ((0, r), M)) {z : Int} (h : j_X18_find_40 y0 M = some z) (hz : P z) : Sem g d YX18_find 40 [(9, 0), (9, 0), (9, 0), (9, 0), (9, 0)] [(0, y0)] M o := by
  delta j_X18_find_40 at h
  obtain rfl := r0 _ (some_P (P := fun r => P r) h hz)
  exact P_ret dX18_find_40 rfl (Or.inl rfl)
theorem s_X18_find_39 {g : GG} {d : Nat} (hD : 5 ≤ d) {M : MM} {o : AV × MM} {P : (Int) → Prop} (r0 : ∀ r : Int, P r → o = ((0, r), M)) {z : Int} (h : j_X18_find_39 M = some z) (hz : P z) : Sem g d YX18_find 39 [(9, 0), (9, 0), (9, 0), (9, 0), (9, 0)] [] M o := by
  delta j_X18_find_39 at h
  refine S_iconst dX18_find_39 rfl ?_
  exact s_X18_find_40 hD r0 h hz
theorem s_X18_find_0 {g : GG} {d : Nat} (hD : 5 ≤ d) {x0 x1 x2 x3 : Int} {M : MM} {o : AV × MM} {P : (Int) → Prop} (r0 : ∀ r : Int, P r → o = ((0, r), M)) {z : Int} (h : f_X18_find x0 x1 x2 x3 M = some z) (hz : P z) : Sem g d YX18_find 0 [(1, x0), (1, x1), (0, x2), (0, x3), (9, 0)] [] M o := by
  delta f_X18_find at h
  refine S_aload_n (i := 0) dX18_find_0 rfl rfl ?_
  refine S_aload_n (i := 1) dX18_find_1 rfl rfl ?_
  refine S_iload_n (i := 2) dX18_find_2 rfl rfl ?_
  refine S_iload_n (i := 3) dX18_find_3 rfl rfl ?_
  refine P_invVp 0 [(1, x1), (0, x2), (0, x3)] [] CVX18_place MLX18_44 dX18_find_4 rfl rfl rfl rfl rfl (by omega) h (fun r h => F_X18_place (by omega) h) (fun v1 h => ?_)
  refine S_istore dX18_find_7 (Nat.le_of_ble_eq_true rfl) rfl rfl ?_
  change Sem g d YX18_find 9 [(1, x0), (1, x1), (0, x2), (0, x3), (0, v1)] [] M o
  refine S_iload dX18_find_9 rfl ?_
  refine S_aload_n (i := 0) dX18_find_11 rfl rfl ?_
  refine P_gfi FLX18_38 rfl dX18_find_12 h (fun v2 h => ?_)
  refine P_icmp_ge (tgt := 39) dX18_find_15 rfl h (fun h => ?_) (fun h => ?_)
  · refine S_weak (ls' := [(9, 0), (9, 0), (9, 0), (9, 0), (9, 0)]) ⟨Or.inl rfl, ⟨Or.inl rfl, ⟨Or.inl rfl, ⟨Or.inl rfl, ⟨Or.inl rfl, trivial⟩⟩⟩⟩⟩ ?_
    exact s_X18_find_39 hD r0 h hz
  · refine S_aload_n (i := 0) dX18_find_18 rfl rfl ?_
    refine P_gfr FLX18_13 rfl dX18_find_19 h (fun v3 h => ?_)
    refine S_iload dX18_find_22 rfl ?_
    refine P_lar (t := 9) ⟨by decide, by decide⟩ dX18_find_24 h (fun v4 h => ?_)
    refine S_aload_n (i := 1) dX18_find_25 rfl rfl ?_
    refine S_iload_n (i := 2) dX18_find_26 rfl rfl ?_
    refine S_iload_n (i := 3) dX18_find_27 rfl rfl ?_
    refine P_invSp 0 [(1, v4), (1, x1), (0, x2), (0, x3)] [] CSX18_compare MLX18_41 dX18_find_28 rfl rfl rfl rfl rfl (by omega) h (fun r h => F_X18_compare (by omega) h) (fun v5 h => ?_)
    refine P_if_ne (tgt := 39) dX18_find_31 rfl h (fun h => ?_) (fun h => ?_)
    · refine S_weak (ls' := [(9, 0), (9, 0), (9, 0), (9, 0), (9, 0)]) ⟨Or.inl rfl, ⟨Or.inl rfl, ⟨Or.inl rfl, ⟨Or.inl rfl, ⟨Or.inl rfl, trivial⟩⟩⟩⟩⟩ ?_
      exact s_X18_find_39 hD r0 h hz
    · refine S_iload dX18_find_34 rfl ?_
      refine S_goto (tgt := 40) dX18_find_36 rfl ?_
      refine S_weak (ls' := [(9, 0), (9, 0), (9, 0), (9, 0), (9, 0)]) ⟨Or.inl rfl, ⟨Or.inl rfl, ⟨Or.inl rfl, ⟨Or.inl rfl, ⟨Or.inl rfl, trivial⟩⟩⟩⟩⟩ ?_
      exact s_X18_find_40 hD r0 h hz
theorem F_X18_find {g : GG} {d : Nat} (hD : 5 ≤ d) {x0 x1 x2 x3 : Int} {M : MM} {r : Int} (h : f_X18_find x0 x1 x2 x3 M = some r) : Sem g d YX18_find 0 (ini YX18_find [(1, x0), (1, x1), (0, x2), (0, x3)]) [] M ((0, r), M) := by
  change Sem g d YX18_find 0 [(1, x0), (1, x1), (0, x2), (0, x3), (9, 0)] [] M ((0, r), M)
  exact s_X18_find_0 hD (P := fun x => x = r) (fun q e => by rw [e]) h rfl
/-! PeerSearch$Peer.putChecked(LPeerSearch$Packet;LPeerSearch$Key;LPeerSearch$Packet;)V -/
theorem dX17_putChecked_0 : decode cX17_putChecked 0 = .ok (.bipush 46, 2) := by decide +kernel
theorem dX17_putChecked_2 : decode cX17_putChecked 2 = .ok (.istore 4, 2) := by decide +kernel
theorem dX17_putChecked_4 : decode cX17_putChecked 4 = .ok (.aload_n 3, 1) := by decide +kernel
theorem dX17_putChecked_5 : decode cX17_putChecked 5 = .ok (.iload 4, 2) := by decide +kernel
theorem dX17_putChecked_7 : decode cX17_putChecked 7 = .ok (.iconst 1, 1) := by decide +kernel
theorem dX17_putChecked_8 : decode cX17_putChecked 8 = .ok (.isub, 1) := by decide +kernel
theorem dX17_putChecked_9 : decode cX17_putChecked 9 = .ok (.iconst 1, 1) := by decide +kernel
theorem dX17_putChecked_10 : decode cX17_putChecked 10 = .ok (.invokevirtual 352, 3) := by decide +kernel
theorem dX17_putChecked_13 : decode cX17_putChecked 13 = .ok (.istore 5, 2) := by decide +kernel
theorem dX17_putChecked_15 : decode cX17_putChecked 15 = .ok (.iconst 0, 1) := by decide +kernel
theorem dX17_putChecked_16 : decode cX17_putChecked 16 = .ok (.istore 6, 2) := by decide +kernel
theorem dX17_putChecked_18 : decode cX17_putChecked 18 = .ok (.aload_n 1, 1) := by decide +kernel
theorem dX17_putChecked_19 : decode cX17_putChecked 19 = .ok (.iconst 0, 1) := by decide +kernel
theorem dX17_putChecked_20 : decode cX17_putChecked 20 = .ok (.iconst 1, 1) := by decide +kernel
theorem dX17_putChecked_21 : decode cX17_putChecked 21 = .ok (.invokevirtual 284, 3) := by decide +kernel
theorem dX17_putChecked_24 : decode cX17_putChecked 24 = .ok (.iconst 0, 1) := by decide +kernel
theorem dX17_putChecked_25 : decode cX17_putChecked 25 = .ok (.istore 7, 2) := by decide +kernel
theorem dX17_putChecked_27 : decode cX17_putChecked 27 = .ok (.iload 7, 2) := by decide +kernel
theorem dX17_putChecked_29 : decode cX17_putChecked 29 = .ok (.iload 5, 2) := by decide +kernel
theorem dX17_putChecked_31 : decode cX17_putChecked 31 = .ok (.if_icmp .ge 71, 3) := by decide +kernel
theorem dX17_putChecked_34 : decode cX17_putChecked 34 = .ok (.aload_n 0, 1) := by decide +kernel
theorem dX17_putChecked_35 : decode cX17_putChecked 35 = .ok (.getfield 21, 3) := by decide +kernel
theorem dX17_putChecked_38 : decode cX17_putChecked 38 = .ok (.aload_n 2, 1) := by decide +kernel
theorem dX17_putChecked_39 : decode cX17_putChecked 39 = .ok (.aload_n 3, 1) := by decide +kernel
theorem dX17_putChecked_40 : decode cX17_putChecked 40 = .ok (.iload 4, 2) := by decide +kernel
theorem dX17_putChecked_42 : decode cX17_putChecked 42 = .ok (.iconst 2, 1) := by decide +kernel
theorem dX17_putChecked_43 : decode cX17_putChecked 43 = .ok (.iload 7, 2) := by decide +kernel
theorem dX17_putChecked_45 : decode cX17_putChecked 45 = .ok (.imul, 1) := by decide +kernel
theorem dX17_putChecked_46 : decode cX17_putChecked 46 = .ok (.iadd, 1) := by decide +kernel
theorem dX17_putChecked_47 : decode cX17_putChecked 47 = .ok (.iconst 1, 1) := by decide +kernel
theorem dX17_putChecked_48 : decode cX17_putChecked 48 = .ok (.invokevirtual 352, 3) := by decide +kernel
theorem dX17_putChecked_51 : decode cX17_putChecked 51 = .ok (.aload_n 3, 1) := by decide +kernel
theorem dX17_putChecked_52 : decode cX17_putChecked 52 = .ok (.iload 4, 2) := by decide +kernel
theorem dX17_putChecked_54 : decode cX17_putChecked 54 = .ok (.iconst 2, 1) := by decide +kernel
theorem dX17_putChecked_55 : decode cX17_putChecked 55 = .ok (.iload 7, 2) := by decide +kernel
theorem dX17_putChecked_57 : decode cX17_putChecked 57 = .ok (.imul, 1) := by decide +kernel
theorem dX17_putChecked_58 : decode cX17_putChecked 58 = .ok (.iadd, 1) := by decide +kernel
theorem dX17_putChecked_59 : decode cX17_putChecked 59 = .ok (.iconst 1, 1) := by decide +kernel
theorem dX17_putChecked_60 : decode cX17_putChecked 60 = .ok (.iadd, 1) := by decide +kernel
theorem dX17_putChecked_61 : decode cX17_putChecked 61 = .ok (.iconst 1, 1) := by decide +kernel
theorem dX17_putChecked_62 : decode cX17_putChecked 62 = .ok (.invokevirtual 352, 3) := by decide +kernel
theorem dX17_putChecked_65 : decode cX17_putChecked 65 = .ok (.invokevirtual 363, 3) := by decide +kernel
theorem dX17_putChecked_68 : decode cX17_putChecked 68 = .ok (.istore 8, 2) := by decide +kernel
theorem dX17_putChecked_70 : decode cX17_putChecked 70 = .ok (.iload 8, 2) := by decide +kernel
theorem dX17_putChecked_72 : decode cX17_putChecked 72 = .ok (.iconst (-1), 1) := by decide +kernel
theorem dX17_putChecked_73 : decode cX17_putChecked 73 = .ok (.if_icmp .ne 6, 3) := by decide +kernel
theorem dX17_putChecked_76 : decode cX17_putChecked 76 = .ok (.goto 20, 3) := by decide +kernel
theorem dX17_putChecked_79 : decode cX17_putChecked 79 = .ok (.aload_n 1, 1) := by decide +kernel
theorem dX17_putChecked_80 : decode cX17_putChecked 80 = .ok (.aload_n 0, 1) := by decide +kernel
theorem dX17_putChecked_81 : decode cX17_putChecked 81 = .ok (.getfield 21, 3) := by decide +kernel
theorem dX17_putChecked_84 : decode cX17_putChecked 84 = .ok (.getfield 327, 3) := by decide +kernel
theorem dX17_putChecked_87 : decode cX17_putChecked 87 = .ok (.iload 8, 2) := by decide +kernel
theorem dX17_putChecked_89 : decode cX17_putChecked 89 = .ok (.aaload, 1) := by decide +kernel
theorem dX17_putChecked_90 : decode cX17_putChecked 90 = .ok (.invokestatic 359, 3) := by decide +kernel
theorem dX17_putChecked_93 : decode cX17_putChecked 93 = .ok (.iinc 6 1, 3) := by decide +kernel
theorem dX17_putChecked_96 : decode cX17_putChecked 96 = .ok (.iinc 7 1, 3) := by decide +kernel
theorem dX17_putChecked_99 : decode cX17_putChecked 99 = .ok (.goto (-72), 3) := by decide +kernel
theorem dX17_putChecked_102 : decode cX17_putChecked 102 = .ok (.aload_n 1, 1) := by decide +kernel
theorem dX17_putChecked_103 : decode cX17_putChecked 103 = .ok (.getfield 142, 3) := by decide +kernel
theorem dX17_putChecked_106 : decode cX17_putChecked 106 = .ok (.bipush 25, 2) := by decide +kernel
theorem dX17_putChecked_108 : decode cX17_putChecked 108 = .ok (.iload 6, 2) := by decide +kernel
theorem dX17_putChecked_110 : decode cX17_putChecked 110 = .ok (.i2b, 1) := by decide +kernel
theorem dX17_putChecked_111 : decode cX17_putChecked 111 = .ok (.bastore, 1) := by decide +kernel
theorem dX17_putChecked_112 : decode cX17_putChecked 112 = .ok (.return_, 1) := by decide +kernel
def j_X17_putChecked_102 (x1 x6 : Int) (M : MM) : Option (MM) :=
  (gfr 4 0 x1 M).bind fun v1 =>
  (sab v1 25 (sx8 x6) M).bind fun M1 =>
  some M1
def j_X17_putChecked_96 (x0 x1 x2 x3 x4 x5 x6 x7 : Int) (M : MM) : Option ((Int × Int × MM) ⊕ (MM)) :=
  cnt (x6, x7 + 1, M)
def b_X17_putChecked_27 (x0 x1 x2 x3 x4 x5 x6 x7 : Int) (M : MM) : Option ((Int × Int × MM) ⊕ (MM)) :=
  if w32 x7 < w32 x5 then
    (gfr 17 6 x0 M).bind fun v1 =>
    ck 4 x3 M <| (f_X4_get x3 (x4 + (2 * x7)) 1 M).bind fun v2 =>
    ck 4 x3 M <| (f_X4_get x3 ((x4 + (2 * x7)) + 1) 1 M).bind fun v3 =>
    ck 18 v1 M <| (f_X18_find v1 x2 v2 v3 M).bind fun v4 =>
    if w32 v4 = w32 (-1) then
      j_X17_putChecked_96 x0 x1 x2 x3 x4 x5 x6 x7 M
    else
      (gfr 17 6 x0 M).bind fun v5 =>
      (gfr 18 0 v5 M).bind fun v6 =>
      (lar 9 v6 v4 M).bind fun v7 =>
      (f_X17_putPosting x1 v7 M).bind fun M1 =>
      j_X17_putChecked_96 x0 x1 x2 x3 x4 x5 (x6 + 1) x7 M1
  else
    xit (j_X17_putChecked_102 x1 x6 M)
def l_X17_putChecked_27 (x0 x1 x2 x3 x4 x5 x6 x7 : Int) (M : MM) : Option (MM) := lpN (fun s : Int × Int × MM => b_X17_putChecked_27 x0 x1 x2 x3 x4 x5 s.1 s.2.1 s.2.2) FU (x6, x7, M)
def f_X17_putChecked (x0 x1 x2 x3 : Int) (M : MM) : Option (MM) :=
  ck 4 x3 M <| (f_X4_get x3 (46 - 1) 1 M).bind fun v1 =>
  ck 4 x1 M <| (f_X4_put x1 0 1 M).bind fun M1 =>
  l_X17_putChecked_27 x0 x1 x2 x3 46 v1 0 0 M1
theorem s_X17_putChecked_102 {g : GG} {d : Nat} (hD : 6 ≤ d) {x1 x6 : Int} {M : MM} {o : AV × MM} {P : (MM) → Prop} (r0 : ∀ r : MM, P r → o = ((9, 0), r)) {z : MM} (h : j_X17_putChecked_102 x1 x6 M = some z) (hz : P z) : Sem g d YX17_putChecked 102 [(9, 0), (1, x1), (9, 0), (9, 0), (9, 0), (9, 0), (0, x6), (9, 0), (9, 0)] [] M o := by
  delta j_X17_putChecked_102 at h
  refine S_aload_n (i := 1) dX17_putChecked_102 rfl rfl ?_
  refine P_gfr FLX17_142 rfl dX17_putChecked_103 h (fun v1 h => ?_)
  refine S_bipush (z := 25) dX17_putChecked_106 rfl ?_
  refine S_iload dX17_putChecked_108 rfl ?_
  refine S_i2b dX17_putChecked_110 ?_
  refine P_sab dX17_putChecked_111 h (fun M1 h => ?_)
  obtain rfl := r0 _ (some_P (P := fun r => P r) h hz)
  exact S_return dX17_putChecked_112 rfl
theorem s_X17_putChecked_96 {g : GG} {d : Nat} (hD : 6 ≤ d) {x0 x1 x2 x3 x4 x5 x6 x7 : Int} {M : MM} {o : AV × MM} {P : ((Int × Int × MM) ⊕ (MM)) → Prop} (c0 : ∀ s : Int × Int × MM, P (.inl s) → Sem g d YX17_putChecked 27 [(1, x0), (1, x1), (1, x2), (1, x3), (0, x4), (0, x5), (0, s.1), (0, s.2.1), (9, 0)] [] s.2.2 o) (r0 : ∀ r : MM, P (.inr r) → o = ((9, 0), r)) {z : (Int × Int × MM) ⊕ (MM)} (h : j_X17_putChecked_96 x0 x1 x2 x3 x4 x5 x6 x7 M = some z) (hz : P z) : Sem g d YX17_putChecked 96 [(1, x0), (1, x1), (1, x2), (1, x3), (0, x4), (0, x5), (0, x6), (0, x7), (9, 0)] [] M o := by
  delta j_X17_putChecked_96 at h
  refine S_iinc dX17_putChecked_96 rfl rfl rfl ?_
  change Sem g d YX17_putChecked 99 [(1, x0), (1, x1), (1, x2), (1, x3), (0, x4), (0, x5), (0, x6), (0, x7 + 1), (9, 0)] [] M o
  refine S_goto (tgt := 27) dX17_putChecked_99 rfl ?_
  exact c0 (x6, x7 + 1, M) (some_P (P := fun r => P r) h hz)
theorem s_X17_putChecked_27 {g : GG} {d : Nat} (hD : 6 ≤ d) {x0 x1 x2 x3 x4 x5 x6 x7 : Int} {M : MM} {o : AV × MM} {P : ((Int × Int × MM) ⊕ (MM)) → Prop} (c0 : ∀ s : Int × Int × MM, P (.inl s) → Sem g d YX17_putChecked 27 [(1, x0), (1, x1), (1, x2), (1, x3), (0, x4), (0, x5), (0, s.1), (0, s.2.1), (9, 0)] [] s.2.2 o) (r0 : ∀ r : MM, P (.inr r) → o = ((9, 0), r)) {z : (Int × Int × MM) ⊕ (MM)} (h : b_X17_putChecked_27 x0 x1 x2 x3 x4 x5 x6 x7 M = some z) (hz : P z) : Sem g d YX17_putChecked 27 [(1, x0), (1, x1), (1, x2), (1, x3), (0, x4), (0, x5), (0, x6), (0, x7), (9, 0)] [] M o := by
  delta b_X17_putChecked_27 at h
  refine S_iload dX17_putChecked_27 rfl ?_
  refine S_iload dX17_putChecked_29 rfl ?_
  refine P_icmp_ge (tgt := 102) dX17_putChecked_31 rfl h (fun h => ?_) (fun h => ?_)
  · refine S_weak (ls' := [(9, 0), (1, x1), (9, 0), (9, 0), (9, 0), (9, 0), (0, x6), (9, 0), (9, 0)]) ⟨Or.inl rfl, ⟨Or.inr rfl, ⟨Or.inl rfl, ⟨Or.inl rfl, ⟨Or.inl rfl, ⟨Or.inl rfl, ⟨Or.inr rfl, ⟨Or.inl rfl, ⟨Or.inl rfl, trivial⟩⟩⟩⟩⟩⟩⟩⟩⟩ ?_
    obtain ⟨z0, h, hz⟩ := xit_some' (P := fun r => P r) h hz
    exact s_X17_putChecked_102 hD (P := fun r => P (.inr r)) r0 h hz
  · refine S_aload_n (i := 0) dX17_putChecked_34 rfl rfl ?_
    refine P_gfr FLX17_21 rfl dX17_putChecked_35 h (fun v1 h => ?_)
    refine S_aload_n (i := 2) dX17_putChecked_38 rfl rfl ?_
    refine S_aload_n (i := 3) dX17_putChecked_39 rfl rfl ?_
    refine S_iload dX17_putChecked_40 rfl ?_
    refine S_iconst dX17_putChecked_42 rfl ?_
    refine S_iload dX17_putChecked_43 rfl ?_
    refine S_imul dX17_putChecked_45 ?_
    refine S_iadd dX17_putChecked_46 ?_
    refine S_iconst dX17_putChecked_47 rfl ?_
    refine P_invVp 0 [(0, x4 + (2 * x7)), (0, 1)] [(1, x2), (1, v1)] CVX4_get MLX17_352 dX17_putChecked_48 rfl rfl rfl rfl rfl (by omega) h (fun r h => F_X4_get (by omega) h) (fun v2 h => ?_)
    refine S_aload_n (i := 3) dX17_putChecked_51 rfl rfl ?_
    refine S_iload dX17_putChecked_52 rfl ?_
    refine S_iconst dX17_putChecked_54 rfl ?_
    refine S_iload dX17_putChecked_55 rfl ?_
    refine S_imul dX17_putChecked_57 ?_
    refine S_iadd dX17_putChecked_58 ?_
    refine S_iconst dX17_putChecked_59 rfl ?_
    refine S_iadd dX17_putChecked_60 ?_
    refine S_iconst dX17_putChecked_61 rfl ?_
    refine P_invVp 0 [(0, (x4 + (2 * x7)) + 1), (0, 1)] [(0, v2), (1, x2), (1, v1)] CVX4_get MLX17_352 dX17_putChecked_62 rfl rfl rfl rfl rfl (by omega) h (fun r h => F_X4_get (by omega) h) (fun v3 h => ?_)
    refine P_invVp 0 [(1, x2), (0, v2), (0, v3)] [] CVX18_find MLX17_363 dX17_putChecked_65 rfl rfl rfl rfl rfl (by omega) h (fun r h => F_X18_find (by omega) h) (fun v4 h => ?_)
    refine S_istore dX17_putChecked_68 (Nat.le_of_ble_eq_true rfl) rfl rfl ?_
    change Sem g d YX17_putChecked 70 [(1, x0), (1, x1), (1, x2), (1, x3), (0, x4), (0, x5), (0, x6), (0, x7), (0, v4)] [] M o
    refine S_iload dX17_putChecked_70 rfl ?_
    refine S_iconst dX17_putChecked_72 rfl ?_
    refine P_icmp_ne (tgt := 79) dX17_putChecked_73 rfl h (fun h => ?_) (fun h => ?_)
    · refine S_aload_n (i := 1) dX17_putChecked_79 rfl rfl ?_
      refine S_aload_n (i := 0) dX17_putChecked_80 rfl rfl ?_
      refine P_gfr FLX17_21 rfl dX17_putChecked_81 h (fun v5 h => ?_)
      refine P_gfr FLX17_327 rfl dX17_putChecked_84 h (fun v6 h => ?_)
      refine S_iload dX17_putChecked_87 rfl ?_
      refine P_lar (t := 9) ⟨by decide, by decide⟩ dX17_putChecked_89 h (fun v7 h => ?_)
      refine P_invSm' [(1, x1), (1, v7)] [] CSX17_putPosting MLX17_359 dX17_putChecked_90 rfl rfl rfl rfl (by omega) h (fun r h => F_X17_putPosting (by omega) h) (fun M1 h => ?_)
      refine S_iinc dX17_putChecked_93 rfl rfl rfl ?_
      change Sem g d YX17_putChecked 96 [(1, x0), (1, x1), (1, x2), (1, x3), (0, x4), (0, x5), (0, x6 + 1), (0, x7), (0, v4)] [] M1 o
      refine S_weak (ls' := [(1, x0), (1, x1), (1, x2), (1, x3), (0, x4), (0, x5), (0, x6 + 1), (0, x7), (9, 0)]) ⟨Or.inr rfl, ⟨Or.inr rfl, ⟨Or.inr rfl, ⟨Or.inr rfl, ⟨Or.inr rfl, ⟨Or.inr rfl, ⟨Or.inr rfl, ⟨Or.inr rfl, ⟨Or.inl rfl, trivial⟩⟩⟩⟩⟩⟩⟩⟩⟩ ?_
      exact s_X17_putChecked_96 hD c0 r0 h hz
    · refine S_goto (tgt := 96) dX17_putChecked_76 rfl ?_
      refine S_weak (ls' := [(1, x0), (1, x1), (1, x2), (1, x3), (0, x4), (0, x5), (0, x6), (0, x7), (9, 0)]) ⟨Or.inr rfl, ⟨Or.inr rfl, ⟨Or.inr rfl, ⟨Or.inr rfl, ⟨Or.inr rfl, ⟨Or.inr rfl, ⟨Or.inr rfl, ⟨Or.inr rfl, ⟨Or.inl rfl, trivial⟩⟩⟩⟩⟩⟩⟩⟩⟩ ?_
      exact s_X17_putChecked_96 hD c0 r0 h hz
theorem sl_X17_putChecked_27 {g : GG} {d : Nat} (hD : 6 ≤ d) {x0 x1 x2 x3 x4 x5 x6 x7 : Int} {M : MM} {o : AV × MM} {P : (MM) → Prop} (r0 : ∀ r : MM, P r → o = ((9, 0), r)) {z : MM} (h : l_X17_putChecked_27 x0 x1 x2 x3 x4 x5 x6 x7 M = some z) (hz : P z) : Sem g d YX17_putChecked 27 [(1, x0), (1, x1), (1, x2), (1, x3), (0, x4), (0, x5), (0, x6), (0, x7), (9, 0)] [] M o := by
  refine lp_sound (S := fun s : Int × Int × MM => Sem g d YX17_putChecked 27 [(1, x0), (1, x1), (1, x2), (1, x3), (0, x4), (0, x5), (0, s.1), (0, s.2.1), (9, 0)] [] s.2.2 o) (P := P) ?_ FU (x6, x7, M) z h hz
  intro s x hx hP
  exact s_X17_putChecked_27 hD (P := Sum.elim (fun s : Int × Int × MM => Sem g d YX17_putChecked 27 [(1, x0), (1, x1), (1, x2), (1, x3), (0, x4), (0, x5), (0, s.1), (0, s.2.1), (9, 0)] [] s.2.2 o) P) (fun s h => h) (fun s h => r0 s h) hx hP
theorem s_X17_putChecked_0 {g : GG} {d : Nat} (hD : 6 ≤ d) {x0 x1 x2 x3 : Int} {M : MM} {o : AV × MM} {P : (MM) → Prop} (r0 : ∀ r : MM, P r → o = ((9, 0), r)) {z : MM} (h : f_X17_putChecked x0 x1 x2 x3 M = some z) (hz : P z) : Sem g d YX17_putChecked 0 [(1, x0), (1, x1), (1, x2), (1, x3), (9, 0), (9, 0), (9, 0), (9, 0), (9, 0)] [] M o := by
  delta f_X17_putChecked at h
  refine S_bipush (z := 46) dX17_putChecked_0 rfl ?_
  refine S_istore dX17_putChecked_2 (Nat.le_of_ble_eq_true rfl) rfl rfl ?_
  change Sem g d YX17_putChecked 4 [(1, x0), (1, x1), (1, x2), (1, x3), (0, 46), (9, 0), (9, 0), (9, 0), (9, 0)] [] M o
  refine S_aload_n (i := 3) dX17_putChecked_4 rfl rfl ?_
  refine S_iload dX17_putChecked_5 rfl ?_
  refine S_iconst dX17_putChecked_7 rfl ?_
  refine S_isub dX17_putChecked_8 ?_
  refine S_iconst dX17_putChecked_9 rfl ?_
  refine P_invVp 0 [(0, 46 - 1), (0, 1)] [] CVX4_get MLX17_352 dX17_putChecked_10 rfl rfl rfl rfl rfl (by omega) h (fun r h => F_X4_get (by omega) h) (fun v1 h => ?_)
  refine S_istore dX17_putChecked_13 (Nat.le_of_ble_eq_true rfl) rfl rfl ?_
  change Sem g d YX17_putChecked 15 [(1, x0), (1, x1), (1, x2), (1, x3), (0, 46), (0, v1), (9, 0), (9, 0), (9, 0)] [] M o
  refine S_iconst dX17_putChecked_15 rfl ?_
  refine S_istore dX17_putChecked_16 (Nat.le_of_ble_eq_true rfl) rfl rfl ?_
  change Sem g d YX17_putChecked 18 [(1, x0), (1, x1), (1, x2), (1, x3), (0, 46), (0, v1), (0, 0), (9, 0), (9, 0)] [] M o
  refine S_aload_n (i := 1) dX17_putChecked_18 rfl rfl ?_
  refine S_iconst dX17_putChecked_19 rfl ?_
  refine S_iconst dX17_putChecked_20 rfl ?_
  refine P_invVm' [(0, 0), (0, 1)] [] CVX4_put MLX17_284 dX17_putChecked_21 rfl rfl rfl rfl (by omega) h (fun r h => F_X4_put (by omega) h) (fun M1 h => ?_)
  refine S_iconst dX17_putChecked_24 rfl ?_
  refine S_istore dX17_putChecked_25 (Nat.le_of_ble_eq_true rfl) rfl rfl ?_
  change Sem g d YX17_putChecked 27 [(1, x0), (1, x1), (1, x2), (1, x3), (0, 46), (0, v1), (0, 0), (0, 0), (9, 0)] [] M1 o
  exact sl_X17_putChecked_27 hD r0 h hz
theorem F_X17_putChecked {g : GG} {d : Nat} (hD : 6 ≤ d) {x0 x1 x2 x3 : Int} {M : MM} {r : MM} (h : f_X17_putChecked x0 x1 x2 x3 M = some r) : Sem g d YX17_putChecked 0 (ini YX17_putChecked [(1, x0), (1, x1), (1, x2), (1, x3)]) [] M ((9, 0), r) := by
  change Sem g d YX17_putChecked 0 [(1, x0), (1, x1), (1, x2), (1, x3), (9, 0), (9, 0), (9, 0), (9, 0), (9, 0)] [] M ((9, 0), r)
  exact s_X17_putChecked_0 hD (P := fun x => x = r) (fun q e => by rw [e]) h rfl
/-! PeerSearch$Filter.mayHave(II)Z -/
theorem dX10_mayHave_0 : decode cX10_mayHave 0 = .ok (.aload_n 0, 1) := by decide +kernel
theorem dX10_mayHave_1 : decode cX10_mayHave 1 = .ok (.getfield 33, 3) := by decide +kernel
theorem dX10_mayHave_4 : decode cX10_mayHave 4 = .ok (.ifCond .ne 5, 3) := by decide +kernel
theorem dX10_mayHave_7 : decode cX10_mayHave 7 = .ok (.iconst 1, 1) := by decide +kernel
theorem dX10_mayHave_8 : decode cX10_mayHave 8 = .ok (.ireturn, 1) := by decide +kernel
theorem dX10_mayHave_9 : decode cX10_mayHave 9 = .ok (.aload_n 0, 1) := by decide +kernel
theorem dX10_mayHave_10 : decode cX10_mayHave 10 = .ok (.iload_n 1, 1) := by decide +kernel
theorem dX10_mayHave_11 : decode cX10_mayHave 11 = .ok (.iload_n 2, 1) := by decide +kernel
theorem dX10_mayHave_12 : decode cX10_mayHave 12 = .ok (.invokevirtual 50, 3) := by decide +kernel
theorem dX10_mayHave_15 : decode cX10_mayHave 15 = .ok (.iconst 0, 1) := by decide +kernel
theorem dX10_mayHave_16 : decode cX10_mayHave 16 = .ok (.istore_n 3, 1) := by decide +kernel
theorem dX10_mayHave_17 : decode cX10_mayHave 17 = .ok (.iload_n 3, 1) := by decide +kernel
theorem dX10_mayHave_18 : decode cX10_mayHave 18 = .ok (.aload_n 0, 1) := by decide +kernel
theorem dX10_mayHave_19 : decode cX10_mayHave 19 = .ok (.getfield 29, 3) := by decide +kernel
theorem dX10_mayHave_22 : decode cX10_mayHave 22 = .ok (.if_icmp .ge 38, 3) := by decide +kernel
theorem dX10_mayHave_25 : decode cX10_mayHave 25 = .ok (.aload_n 0, 1) := by decide +kernel
theorem dX10_mayHave_26 : decode cX10_mayHave 26 = .ok (.getfield 9, 3) := by decide +kernel
theorem dX10_mayHave_29 : decode cX10_mayHave 29 = .ok (.aload_n 0, 1) := by decide +kernel
theorem dX10_mayHave_30 : decode cX10_mayHave 30 = .ok (.iload_n 3, 1) := by decide +kernel
theorem dX10_mayHave_31 : decode cX10_mayHave 31 = .ok (.invokevirtual 54, 3) := by decide +kernel
theorem dX10_mayHave_34 : decode cX10_mayHave 34 = .ok (.bipush 8, 2) := by decide +kernel
theorem dX10_mayHave_36 : decode cX10_mayHave 36 = .ok (.idiv, 1) := by decide +kernel
theorem dX10_mayHave_37 : decode cX10_mayHave 37 = .ok (.baload, 1) := by decide +kernel
theorem dX10_mayHave_38 : decode cX10_mayHave 38 = .ok (.aload_n 0, 1) := by decide +kernel
theorem dX10_mayHave_39 : decode cX10_mayHave 39 = .ok (.iload_n 3, 1) := by decide +kernel
theorem dX10_mayHave_40 : decode cX10_mayHave 40 = .ok (.invokevirtual 54, 3) := by decide +kernel
theorem dX10_mayHave_43 : decode cX10_mayHave 43 = .ok (.bipush 8, 2) := by decide +kernel
theorem dX10_mayHave_45 : decode cX10_mayHave 45 = .ok (.irem, 1) := by decide +kernel
theorem dX10_mayHave_46 : decode cX10_mayHave 46 = .ok (.ishr, 1) := by decide +kernel
theorem dX10_mayHave_47 : decode cX10_mayHave 47 = .ok (.iconst 1, 1) := by decide +kernel
theorem dX10_mayHave_48 : decode cX10_mayHave 48 = .ok (.iand, 1) := by decide +kernel
theorem dX10_mayHave_49 : decode cX10_mayHave 49 = .ok (.ifCond .ne 5, 3) := by decide +kernel
theorem dX10_mayHave_52 : decode cX10_mayHave 52 = .ok (.iconst 0, 1) := by decide +kernel
theorem dX10_mayHave_53 : decode cX10_mayHave 53 = .ok (.ireturn, 1) := by decide +kernel
theorem dX10_mayHave_54 : decode cX10_mayHave 54 = .ok (.iinc 3 1, 3) := by decide +kernel
theorem dX10_mayHave_57 : decode cX10_mayHave 57 = .ok (.goto (-40), 3) := by decide +kernel
theorem dX10_mayHave_60 : decode cX10_mayHave 60 = .ok (.iconst 1, 1) := by decide +kernel
theorem dX10_mayHave_61 : decode cX10_mayHave 61 = .ok (.ireturn, 1) := by decide +kernel
def b_X10_mayHave_17 (x0 x3 : Int) (M : MM) : Option ((Int) ⊕ (Int × MM)) :=
  (gfi 10 2 x0 M).bind fun v1 =>
  if w32 x3 < w32 v1 then
    (gfr 10 0 x0 M).bind fun v2 =>
    ck 10 x0 M <| (f_X10_bit x0 x3 M).bind fun v3 =>
    (dvi v3 8).bind fun v4 =>
    (lab v2 v4 M).bind fun v5 =>
    ck 10 x0 M <| (f_X10_bit x0 x3 M).bind fun v6 =>
    (rmi v6 8).bind fun v7 =>
    if w32 (band (bshr v5 v7) 1) = 0 then
      xit (some (0, M))
    else
      cnt (x3 + 1)
  else
    xit (some (1, M))
def l_X10_mayHave_17 (x0 x3 : Int) (M : MM) : Option (Int × MM) := lpN (fun s : Int => b_X10_mayHave_17 x0 s M) FU x3
def f_X10_mayHave (x0 x1 x2 : Int) (M : MM) : Option (Int × MM) :=
  (gfi 10 1 x0 M).bind fun v1 =>
  if w32 v1 = 0 then
    some (1, M)
  else
    ck 10 x0 M <| (f_X10_hash x0 x1 x2 M).bind fun M1 =>
    l_X10_mayHave_17 x0 0 M1
theorem s_X10_mayHave_17 {g : GG} {d : Nat} (hD : 4 ≤ d) {x0 x3 : Int} {M : MM} {o : AV × MM} {P : ((Int) ⊕ (Int × MM)) → Prop} (c0 : ∀ s : Int, P (.inl s) → Sem g d YX10_mayHave 17 [(1, x0), (9, 0), (9, 0), (0, s)] [] M o) (r0 : ∀ r : Int × MM, P (.inr r) → o = ((0, r.1), r.2)) {z : (Int) ⊕ (Int × MM)} (h : b_X10_mayHave_17 x0 x3 M = some z) (hz : P z) : Sem g d YX10_mayHave 17 [(1, x0), (9, 0), (9, 0), (0, x3)] [] M o := by
  delta b_X10_mayHave_17 at h
  refine S_iload_n (i := 3) dX10_mayHave_17 rfl rfl ?_
  refine S_aload_n (i := 0) dX10_mayHave_18 rfl rfl ?_
  refine P_gfi FLX10_29 rfl dX10_mayHave_19 h (fun v1 h => ?_)
  refine P_icmp_ge (tgt := 60) dX10_mayHave_22 rfl h (fun h => ?_) (fun h => ?_)
  · obtain ⟨z0, h, hz⟩ := xit_some' (P := fun r => P r) h hz
    refine S_iconst dX10_mayHave_60 rfl ?_
    obtain rfl := r0 _ (some_P (P := fun r => P (.inr r)) h hz)
    exact P_ret dX10_mayHave_61 rfl (Or.inr ⟨rfl, Or.inr rfl⟩)
  · refine S_aload_n (i := 0) dX10_mayHave_25 rfl rfl ?_
    refine P_gfr FLX10_9 rfl dX10_mayHave_26 h (fun v2 h => ?_)
    refine S_aload_n (i := 0) dX10_mayHave_29 rfl rfl ?_
    refine S_iload_n (i := 3) dX10_mayHave_30 rfl rfl ?_
    refine P_invVp 0 [(0, x3)] [(1, v2)] CVX10_bit MLX10_54 dX10_mayHave_31 rfl rfl rfl rfl rfl (by omega) h (fun r h => F_X10_bit (by omega) h) (fun v3 h => ?_)
    refine S_bipush (z := 8) dX10_mayHave_34 rfl ?_
    refine P_dvi dX10_mayHave_36 h (fun v4 h => ?_)
    refine P_lab dX10_mayHave_37 h (fun v5 h => ?_)
    refine S_aload_n (i := 0) dX10_mayHave_38 rfl rfl ?_
    refine S_iload_n (i := 3) dX10_mayHave_39 rfl rfl ?_
    refine P_invVp 0 [(0, x3)] [(0, v5)] CVX10_bit MLX10_54 dX10_mayHave_40 rfl rfl rfl rfl rfl (by omega) h (fun r h => F_X10_bit (by omega) h) (fun v6 h => ?_)
    refine S_bipush (z := 8) dX10_mayHave_43 rfl ?_
    refine P_rmi dX10_mayHave_45 h (fun v7 h => ?_)
    refine S_ishr dX10_mayHave_46 ?_
    refine S_iconst dX10_mayHave_47 rfl ?_
    refine S_iand dX10_mayHave_48 ?_
    refine P_if_ne (tgt := 54) dX10_mayHave_49 rfl h (fun h => ?_) (fun h => ?_)
    · refine S_iinc dX10_mayHave_54 rfl rfl rfl ?_
      change Sem g d YX10_mayHave 57 [(1, x0), (9, 0), (9, 0), (0, x3 + 1)] [] M o
      refine S_goto (tgt := 17) dX10_mayHave_57 rfl ?_
      exact c0 (x3 + 1) (some_P (P := fun r => P r) h hz)
    · obtain ⟨z0, h, hz⟩ := xit_some' (P := fun r => P r) h hz
      refine S_iconst dX10_mayHave_52 rfl ?_
      obtain rfl := r0 _ (some_P (P := fun r => P (.inr r)) h hz)
      exact P_ret dX10_mayHave_53 rfl (Or.inr ⟨rfl, Or.inl rfl⟩)
theorem sl_X10_mayHave_17 {g : GG} {d : Nat} (hD : 4 ≤ d) {x0 x3 : Int} {M : MM} {o : AV × MM} {P : (Int × MM) → Prop} (r0 : ∀ r : Int × MM, P r → o = ((0, r.1), r.2)) {z : Int × MM} (h : l_X10_mayHave_17 x0 x3 M = some z) (hz : P z) : Sem g d YX10_mayHave 17 [(1, x0), (9, 0), (9, 0), (0, x3)] [] M o := by
  refine lp_sound (S := fun s : Int => Sem g d YX10_mayHave 17 [(1, x0), (9, 0), (9, 0), (0, s)] [] M o) (P := P) ?_ FU x3 z h hz
  intro s x hx hP
  exact s_X10_mayHave_17 hD (P := Sum.elim (fun s : Int => Sem g d YX10_mayHave 17 [(1, x0), (9, 0), (9, 0), (0, s)] [] M o) P) (fun s h => h) (fun s h => r0 s h) hx hP
theorem s_X10_mayHave_0 {g : GG} {d : Nat} (hD : 4 ≤ d) {x0 x1 x2 : Int} {M : MM} {o : AV × MM} {P : (Int × MM) → Prop} (r0 : ∀ r : Int × MM, P r → o = ((0, r.1), r.2)) {z : Int × MM} (h : f_X10_mayHave x0 x1 x2 M = some z) (hz : P z) : Sem g d YX10_mayHave 0 [(1, x0), (0, x1), (0, x2), (9, 0)] [] M o := by
  delta f_X10_mayHave at h
  refine S_aload_n (i := 0) dX10_mayHave_0 rfl rfl ?_
  refine P_gfi FLX10_33 rfl dX10_mayHave_1 h (fun v1 h => ?_)
  refine P_if_ne (tgt := 9) dX10_mayHave_4 rfl h (fun h => ?_) (fun h => ?_)
  · refine S_aload_n (i := 0) dX10_mayHave_9 rfl rfl ?_
    refine S_iload_n (i := 1) dX10_mayHave_10 rfl rfl ?_
    refine S_iload_n (i := 2) dX10_mayHave_11 rfl rfl ?_
    refine P_invVm' [(0, x1), (0, x2)] [] CVX10_hash MLX10_50 dX10_mayHave_12 rfl rfl rfl rfl (by omega) h (fun r h => F_X10_hash (by omega) h) (fun M1 h => ?_)
    refine S_iconst dX10_mayHave_15 rfl ?_
    refine S_istore_n (i := 3) dX10_mayHave_16 rfl (Nat.le_of_ble_eq_true rfl) rfl rfl ?_
    change Sem g d YX10_mayHave 17 [(1, x0), (0, x1), (0, x2), (0, 0)] [] M1 o
    refine S_weak (ls' := [(1, x0), (9, 0), (9, 0), (0, 0)]) ⟨Or.inr rfl, ⟨Or.inl rfl, ⟨Or.inl rfl, ⟨Or.inr rfl, trivial⟩⟩⟩⟩ ?_
    exact sl_X10_mayHave_17 hD r0 h hz
  · refine S_iconst dX10_mayHave_7 rfl ?_
    obtain rfl := r0 _ (some_P (P := fun r => P r) h hz)
    exact P_ret dX10_mayHave_8 rfl (Or.inr ⟨rfl, Or.inr rfl⟩)
theorem F_X10_mayHave {g : GG} {d : Nat} (hD : 4 ≤ d) {x0 x1 x2 : Int} {M : MM} {r : Int × MM} (h : f_X10_mayHave x0 x1 x2 M = some r) : Sem g d YX10_mayHave 0 (ini YX10_mayHave [(1, x0), (0, x1), (0, x2)]) [] M ((0, r.1), r.2) := by
  change Sem g d YX10_mayHave 0 [(1, x0), (0, x1), (0, x2), (9, 0)] [] M ((0, r.1), r.2)
  exact s_X10_mayHave_0 hD (P := fun x => x = r) (fun q e => by rw [e]) h rfl
/-! PeerSearch$Peer.putMatches(LPeerSearch$Packet;LPeerSearch$Key;LPeerSearch$Packet;)V -/
theorem dX17_putMatches_0 : decode cX17_putMatches 0 = .ok (.aload_n 0, 1) := by decide +kernel
theorem dX17_putMatches_1 : decode cX17_putMatches 1 = .ok (.getfield 42, 3) := by decide +kernel
theorem dX17_putMatches_4 : decode cX17_putMatches 4 = .ok (.getfield 319, 3) := by decide +kernel
theorem dX17_putMatches_7 : decode cX17_putMatches 7 = .ok (.aload_n 3, 1) := by decide +kernel
theorem dX17_putMatches_8 : decode cX17_putMatches 8 = .ok (.bipush 47, 2) := by decide +kernel
theorem dX17_putMatches_10 : decode cX17_putMatches 10 = .ok (.invokevirtual 348, 3) := by decide +kernel
theorem dX17_putMatches_13 : decode cX17_putMatches 13 = .ok (.aload_n 3, 1) := by decide +kernel
theorem dX17_putMatches_14 : decode cX17_putMatches 14 = .ok (.bipush 45, 2) := by decide +kernel
theorem dX17_putMatches_16 : decode cX17_putMatches 16 = .ok (.iconst 2, 1) := by decide +kernel
theorem dX17_putMatches_17 : decode cX17_putMatches 17 = .ok (.invokevirtual 352, 3) := by decide +kernel
theorem dX17_putMatches_20 : decode cX17_putMatches 20 = .ok (.istore 4, 2) := by decide +kernel
theorem dX17_putMatches_22 : decode cX17_putMatches 22 = .ok (.iconst 0, 1) := by decide +kernel
theorem dX17_putMatches_23 : decode cX17_putMatches 23 = .ok (.istore 5, 2) := by decide +kernel
theorem dX17_putMatches_25 : decode cX17_putMatches 25 = .ok (.iconst 0, 1) := by decide +kernel
theorem dX17_putMatches_26 : decode cX17_putMatches 26 = .ok (.istore 6, 2) := by decide +kernel
theorem dX17_putMatches_28 : decode cX17_putMatches 28 = .ok (.aload_n 1, 1) := by decide +kernel
theorem dX17_putMatches_29 : decode cX17_putMatches 29 = .ok (.iconst 0, 1) := by decide +kernel
theorem dX17_putMatches_30 : decode cX17_putMatches 30 = .ok (.iconst 2, 1) := by decide +kernel
theorem dX17_putMatches_31 : decode cX17_putMatches 31 = .ok (.invokevirtual 284, 3) := by decide +kernel
theorem dX17_putMatches_34 : decode cX17_putMatches 34 = .ok (.aload_n 0, 1) := by decide +kernel
theorem dX17_putMatches_35 : decode cX17_putMatches 35 = .ok (.getfield 21, 3) := by decide +kernel
theorem dX17_putMatches_38 : decode cX17_putMatches 38 = .ok (.aload_n 2, 1) := by decide +kernel
theorem dX17_putMatches_39 : decode cX17_putMatches 39 = .ok (.invokevirtual 316, 3) := by decide +kernel
theorem dX17_putMatches_42 : decode cX17_putMatches 42 = .ok (.istore 7, 2) := by decide +kernel
theorem dX17_putMatches_44 : decode cX17_putMatches 44 = .ok (.iload 7, 2) := by decide +kernel
theorem dX17_putMatches_46 : decode cX17_putMatches 46 = .ok (.aload_n 0, 1) := by decide +kernel
theorem dX17_putMatches_47 : decode cX17_putMatches 47 = .ok (.getfield 21, 3) := by decide +kernel
theorem dX17_putMatches_50 : decode cX17_putMatches 50 = .ok (.aload_n 2, 1) := by decide +kernel
theorem dX17_putMatches_51 : decode cX17_putMatches 51 = .ok (.invokevirtual 280, 3) := by decide +kernel
theorem dX17_putMatches_54 : decode cX17_putMatches 54 = .ok (.iadd, 1) := by decide +kernel
theorem dX17_putMatches_55 : decode cX17_putMatches 55 = .ok (.istore 8, 2) := by decide +kernel
theorem dX17_putMatches_57 : decode cX17_putMatches 57 = .ok (.iload 7, 2) := by decide +kernel
theorem dX17_putMatches_59 : decode cX17_putMatches 59 = .ok (.istore 9, 2) := by decide +kernel
theorem dX17_putMatches_61 : decode cX17_putMatches 61 = .ok (.iload 9, 2) := by decide +kernel
theorem dX17_putMatches_63 : decode cX17_putMatches 63 = .ok (.iload 8, 2) := by decide +kernel
theorem dX17_putMatches_65 : decode cX17_putMatches 65 = .ok (.if_icmp .ge 85, 3) := by decide +kernel
theorem dX17_putMatches_68 : decode cX17_putMatches 68 = .ok (.iload 6, 2) := by decide +kernel
theorem dX17_putMatches_70 : decode cX17_putMatches 70 = .ok (.ifCond .ne 80, 3) := by decide +kernel
theorem dX17_putMatches_73 : decode cX17_putMatches 73 = .ok (.aload_n 0, 1) := by decide +kernel
theorem dX17_putMatches_74 : decode cX17_putMatches 74 = .ok (.getfield 21, 3) := by decide +kernel
theorem dX17_putMatches_77 : decode cX17_putMatches 77 = .ok (.getfield 327, 3) := by decide +kernel
theorem dX17_putMatches_80 : decode cX17_putMatches 80 = .ok (.iload 9, 2) := by decide +kernel
theorem dX17_putMatches_82 : decode cX17_putMatches 82 = .ok (.aaload, 1) := by decide +kernel
theorem dX17_putMatches_83 : decode cX17_putMatches 83 = .ok (.astore 10, 2) := by decide +kernel
theorem dX17_putMatches_85 : decode cX17_putMatches 85 = .ok (.aload_n 0, 1) := by decide +kernel
theorem dX17_putMatches_86 : decode cX17_putMatches 86 = .ok (.getfield 42, 3) := by decide +kernel
theorem dX17_putMatches_89 : decode cX17_putMatches 89 = .ok (.getfield 319, 3) := by decide +kernel
theorem dX17_putMatches_92 : decode cX17_putMatches 92 = .ok (.aload 10, 2) := by decide +kernel
theorem dX17_putMatches_94 : decode cX17_putMatches 94 = .ok (.getfield 331, 3) := by decide +kernel
theorem dX17_putMatches_97 : decode cX17_putMatches 97 = .ok (.aload 10, 2) := by decide +kernel
theorem dX17_putMatches_99 : decode cX17_putMatches 99 = .ok (.getfield 336, 3) := by decide +kernel
theorem dX17_putMatches_102 : decode cX17_putMatches 102 = .ok (.invokevirtual 356, 3) := by decide +kernel
theorem dX17_putMatches_105 : decode cX17_putMatches 105 = .ok (.ifCond .ne 6, 3) := by decide +kernel
theorem dX17_putMatches_108 : decode cX17_putMatches 108 = .ok (.goto 36, 3) := by decide +kernel
theorem dX17_putMatches_111 : decode cX17_putMatches 111 = .ok (.iload 4, 2) := by decide +kernel
theorem dX17_putMatches_113 : decode cX17_putMatches 113 = .ok (.ifCond .le 9, 3) := by decide +kernel
theorem dX17_putMatches_116 : decode cX17_putMatches 116 = .ok (.iinc 4 (-1), 3) := by decide +kernel
theorem dX17_putMatches_119 : decode cX17_putMatches 119 = .ok (.goto 25, 3) := by decide +kernel
theorem dX17_putMatches_122 : decode cX17_putMatches 122 = .ok (.iload 5, 2) := by decide +kernel
theorem dX17_putMatches_124 : decode cX17_putMatches 124 = .ok (.bipush 30, 2) := by decide +kernel
theorem dX17_putMatches_126 : decode cX17_putMatches 126 = .ok (.if_icmp .ne 9, 3) := by decide +kernel
theorem dX17_putMatches_129 : decode cX17_putMatches 129 = .ok (.iconst 1, 1) := by decide +kernel
theorem dX17_putMatches_130 : decode cX17_putMatches 130 = .ok (.istore 6, 2) := by decide +kernel
theorem dX17_putMatches_132 : decode cX17_putMatches 132 = .ok (.goto 12, 3) := by decide +kernel
theorem dX17_putMatches_135 : decode cX17_putMatches 135 = .ok (.aload_n 1, 1) := by decide +kernel
theorem dX17_putMatches_136 : decode cX17_putMatches 136 = .ok (.aload 10, 2) := by decide +kernel
theorem dX17_putMatches_138 : decode cX17_putMatches 138 = .ok (.invokestatic 359, 3) := by decide +kernel
theorem dX17_putMatches_141 : decode cX17_putMatches 141 = .ok (.iinc 5 1, 3) := by decide +kernel
theorem dX17_putMatches_144 : decode cX17_putMatches 144 = .ok (.iinc 9 1, 3) := by decide +kernel
theorem dX17_putMatches_147 : decode cX17_putMatches 147 = .ok (.goto (-86), 3) := by decide +kernel
theorem dX17_putMatches_150 : decode cX17_putMatches 150 = .ok (.aload_n 1, 1) := by decide +kernel
theorem dX17_putMatches_151 : decode cX17_putMatches 151 = .ok (.getfield 142, 3) := by decide +kernel
theorem dX17_putMatches_154 : decode cX17_putMatches 154 = .ok (.bipush 25, 2) := by decide +kernel
theorem dX17_putMatches_156 : decode cX17_putMatches 156 = .ok (.iload 6, 2) := by decide +kernel
theorem dX17_putMatches_158 : decode cX17_putMatches 158 = .ok (.ifCond .eq 7, 3) := by decide +kernel
theorem dX17_putMatches_161 : decode cX17_putMatches 161 = .ok (.iconst 1, 1) := by decide +kernel
theorem dX17_putMatches_162 : decode cX17_putMatches 162 = .ok (.goto 4, 3) := by decide +kernel
theorem dX17_putMatches_165 : decode cX17_putMatches 165 = .ok (.iconst 0, 1) := by decide +kernel
theorem dX17_putMatches_166 : decode cX17_putMatches 166 = .ok (.i2b, 1) := by decide +kernel
theorem dX17_putMatches_167 : decode cX17_putMatches 167 = .ok (.bastore, 1) := by decide +kernel
theorem dX17_putMatches_168 : decode cX17_putMatches 168 = .ok (.aload_n 1, 1) := by decide +kernel
theorem dX17_putMatches_169 : decode cX17_putMatches 169 = .ok (.getfield 142, 3) := by decide +kernel
theorem dX17_putMatches_172 : decode cX17_putMatches 172 = .ok (.bipush 26, 2) := by decide +kernel
theorem dX17_putMatches_174 : decode cX17_putMatches 174 = .ok (.iload 5, 2) := by decide +kernel
theorem dX17_putMatches_176 : decode cX17_putMatches 176 = .ok (.i2b, 1) := by decide +kernel
theorem dX17_putMatches_177 : decode cX17_putMatches 177 = .ok (.bastore, 1) := by decide +kernel
theorem dX17_putMatches_178 : decode cX17_putMatches 178 = .ok (.return_, 1) := by decide +kernel
def j_X17_putMatches_166 (x1 x5 y0 y1 y2 : Int) (M : MM) : Option (MM) :=
  (sab y0 y1 (sx8 y2) M).bind fun M1 =>
  (gfr 4 0 x1 M1).bind fun v1 =>
  (sab v1 26 (sx8 x5) M1).bind fun M2 =>
  some M2
def j_X17_putMatches_150 (x1 x5 x6 : Int) (M : MM) : Option (MM) :=
  (gfr 4 0 x1 M).bind fun v1 =>
  if w32 x6 = 0 then
    j_X17_putMatches_166 x1 x5 v1 25 0 M
  else
    j_X17_putMatches_166 x1 x5 v1 25 1 M
def j_X17_putMatches_144 (x0 x1 x4 x5 x6 x8 x9 : Int) (M : MM) : Option ((Int × Int × Int × Int × MM) ⊕ (MM)) :=
  cnt (x4, x5, x6, x9 + 1, M)
def b_X17_putMatches_61 (x0 x1 x4 x5 x6 x8 x9 : Int) (M : MM) : Option ((Int × Int × Int × Int × MM) ⊕ (MM)) :=
  if w32 x9 < w32 x8 then
    if w32 x6 = 0 then
      (gfr 17 6 x0 M).bind fun v1 =>
      (gfr 18 0 v1 M).bind fun v2 =>
      (lar 9 v2 x9 M).bind fun v3 =>
      (gfr 17 0 x0 M).bind fun v4 =>
      (gfr 6 10 v4 M).bind fun v5 =>
      (gfi 28 1 v3 M).bind fun v6 =>
      (gfi 28 2 v3 M).bind fun v7 =>
      ck 10 v5 M <| (f_X10_mayHave v5 v6 v7 M).bind fun r1 =>
      if w32 r1.1 = 0 then
        j_X17_putMatches_144 x0 x1 x4 x5 x6 x8 x9 r1.2
      else
        if 0 < w32 x4 then
          j_X17_putMatches_144 x0 x1 (x4 + (-1)) x5 x6 x8 x9 r1.2
        else
          if w32 x5 = w32 30 then
            j_X17_putMatches_144 x0 x1 x4 x5 1 x8 x9 r1.2
          else
            (f_X17_putPosting x1 v3 r1.2).bind fun M1 =>
            j_X17_putMatches_144 x0 x1 x4 (x5 + 1) x6 x8 x9 M1
    else
      xit (j_X17_putMatches_150 x1 x5 x6 M)
  else
    xit (j_X17_putMatches_150 x1 x5 x6 M)
def l_X17_putMatches_61 (x0 x1 x4 x5 x6 x8 x9 : Int) (M : MM) : Option (MM) := lpN (fun s : Int × Int × Int × Int × MM => b_X17_putMatches_61 x0 x1 s.1 s.2.1 s.2.2.1 x8 s.2.2.2.1 s.2.2.2.2) FU (x4, x5, x6, x9, M)
def f_X17_putMatches (x0 x1 x2 x3 : Int) (M : MM) : Option (MM) :=
  (gfr 17 0 x0 M).bind fun v1 =>
  (gfr 6 10 v1 M).bind fun v2 =>
  ck 10 v2 M <| (f_X10_read v2 x3 47 M).bind fun M1 =>
  ck 4 x3 M1 <| (f_X4_get x3 45 2 M1).bind fun v3 =>
  ck 4 x1 M1 <| (f_X4_put x1 0 2 M1).bind fun M2 =>
  (gfr 17 6 x0 M2).bind fun v4 =>
  ck 18 v4 M2 <| (f_X18_first v4 x2 M2).bind fun v5 =>
  (gfr 17 6 x0 M2).bind fun v6 =>
  ck 18 v6 M2 <| (f_X18_count v6 x2 M2).bind fun v7 =>
  l_X17_putMatches_61 x0 x1 v3 0 0 (v5 + v7) v5 M2
theorem s_X17_putMatches_166 {g : GG} {d : Nat} (hD : 7 ≤ d) {x1 x5 y0 y1 y2 : Int} {M : MM} {o : AV × MM} {P : (MM) → Prop} (r0 : ∀ r : MM, P r → o = ((9, 0), r)) {z : MM} (h : j_X17_putMatches_166 x1 x5 y0 y1 y2 M = some z) (hz : P z) : Sem g d YX17_putMatches 166 [(9, 0), (1, x1), (9, 0), (9, 0), (9, 0), (0, x5), (9, 0), (9, 0), (9, 0), (9, 0), (9, 0)] [(0, y2), (0, y1), (1, y0)] M o := by
  delta j_X17_putMatches_166 at h
  refine S_i2b dX17_putMatches_166 ?_
  refine P_sab dX17_putMatches_167 h (fun M1 h => ?_)
  refine S_aload_n (i := 1) dX17_putMatches_168 rfl rfl ?_
  refine P_gfr FLX17_142 rfl dX17_putMatches_169 h (fun v1 h => ?_)
  refine S_bipush (z := 26) dX17_putMatches_172 rfl ?_
  refine S_iload dX17_putMatches_174 rfl ?_
  refine S_i2b dX17_putMatches_176 ?_
  refine P_sab dX17_putMatches_177 h (fun M2 h => ?_)
  obtain rfl := r0 _ (some_P (P := fun r => P r) h hz)
  exact S_return dX17_putMatches_178 rfl
theorem s_X17_putMatches_150 {g : GG} {d : Nat} (hD : 7 ≤ d) {x1 x5 x6 : Int} {M : MM} {o : AV × MM} {P : (MM) → Prop} (r0 : ∀ r : MM, P r → o = ((9, 0), r)) {z : MM} (h : j_X17_putMatches_150 x1 x5 x6 M = some z) (hz : P z) : Sem g d YX17_putMatches 150 [(9, 0), (1, x1), (9, 0), (9, 0), (9, 0), (0, x5), (0, x6), (9, 0), (9, 0), (9, 0), (9, 0)] [] M o := by
  delta j_X17_putMatches_150 at h
  refine S_aload_n (i := 1) dX17_putMatches_150 rfl rfl ?_
  refine P_gfr FLX17_142 rfl dX17_putMatches_151 h (fun v1 h => ?_)
  refine S_bipush (z := 25) dX17_putMatches_154 rfl ?_
  refine S_iload dX17_putMatches_156 rfl ?_
  refine P_if_eq (tgt := 165) dX17_putMatches_158 rfl h (fun h => ?_) (fun h => ?_)
  · refine S_iconst dX17_putMatches_165 rfl ?_
    refine S_weak (ls' := [(9, 0), (1, x1), (9, 0), (9, 0), (9, 0), (0, x5), (9, 0), (9, 0), (9, 0), (9, 0), (9, 0)]) ⟨Or.inl rfl, ⟨Or.inr rfl, ⟨Or.inl rfl, ⟨Or.inl rfl, ⟨Or.inl rfl, ⟨Or.inr rfl, ⟨Or.inl rfl, ⟨Or.inl rfl, ⟨Or.inl rfl, ⟨Or.inl rfl, ⟨Or.inl rfl, trivial⟩⟩⟩⟩⟩⟩⟩⟩⟩⟩⟩ ?_
    exact s_X17_putMatches_166 hD r0 h hz
  · refine S_iconst dX17_putMatches_161 rfl ?_
    refine S_goto (tgt := 166) dX17_putMatches_162 rfl ?_
    refine S_weak (ls' := [(9, 0), (1, x1), (9, 0), (9, 0), (9, 0), (0, x5), (9, 0), (9, 0), (9, 0), (9, 0), (9, 0)]) ⟨Or.inl rfl, ⟨Or.inr rfl, ⟨Or.inl rfl, ⟨Or.inl rfl, ⟨Or.inl rfl, ⟨Or.inr rfl, ⟨Or.inl rfl, ⟨Or.inl rfl, ⟨Or.inl rfl, ⟨Or.inl rfl, ⟨Or.inl rfl, trivial⟩⟩⟩⟩⟩⟩⟩⟩⟩⟩⟩ ?_
    exact s_X17_putMatches_166 hD r0 h hz
theorem s_X17_putMatches_144 {g : GG} {d : Nat} (hD : 7 ≤ d) {x0 x1 x4 x5 x6 x8 x9 : Int} {M : MM} {o : AV × MM} {P : ((Int × Int × Int × Int × MM) ⊕ (MM)) → Prop} (c0 : ∀ s : Int × Int × Int × Int × MM, P (.inl s) → Sem g d YX17_putMatches 61 [(1, x0), (1, x1), (9, 0), (9, 0), (0, s.1), (0, s.2.1), (0, s.2.2.1), (9, 0), (0, x8), (0, s.2.2.2.1), (9, 0)] [] s.2.2.2.2 o) (r0 : ∀ r : MM, P (.inr r) → o = ((9, 0), r)) {z : (Int × Int × Int × Int × MM) ⊕ (MM)} (h : j_X17_putMatches_144 x0 x1 x4 x5 x6 x8 x9 M = some z) (hz : P z) : Sem g d YX17_putMatches 144 [(1, x0), (1, x1), (9, 0), (9, 0), (0, x4), (0, x5), (0, x6), (9, 0), (0, x8), (0, x9), (9, 0)] [] M o := by
  delta j_X17_putMatches_144 at h
  refine S_iinc dX17_putMatches_144 rfl rfl rfl ?_
  change Sem g d YX17_putMatches 147 [(1, x0), (1, x1), (9, 0), (9, 0), (0, x4), (0, x5), (0, x6), (9, 0), (0, x8), (0, x9 + 1), (9, 0)] [] M o
  refine S_goto (tgt := 61) dX17_putMatches_147 rfl ?_
  exact c0 (x4, x5, x6, x9 + 1, M) (some_P (P := fun r => P r) h hz)
theorem s_X17_putMatches_61 {g : GG} {d : Nat} (hD : 7 ≤ d) {x0 x1 x4 x5 x6 x8 x9 : Int} {M : MM} {o : AV × MM} {P : ((Int × Int × Int × Int × MM) ⊕ (MM)) → Prop} (c0 : ∀ s : Int × Int × Int × Int × MM, P (.inl s) → Sem g d YX17_putMatches 61 [(1, x0), (1, x1), (9, 0), (9, 0), (0, s.1), (0, s.2.1), (0, s.2.2.1), (9, 0), (0, x8), (0, s.2.2.2.1), (9, 0)] [] s.2.2.2.2 o) (r0 : ∀ r : MM, P (.inr r) → o = ((9, 0), r)) {z : (Int × Int × Int × Int × MM) ⊕ (MM)} (h : b_X17_putMatches_61 x0 x1 x4 x5 x6 x8 x9 M = some z) (hz : P z) : Sem g d YX17_putMatches 61 [(1, x0), (1, x1), (9, 0), (9, 0), (0, x4), (0, x5), (0, x6), (9, 0), (0, x8), (0, x9), (9, 0)] [] M o := by
  delta b_X17_putMatches_61 at h
  refine S_iload dX17_putMatches_61 rfl ?_
  refine S_iload dX17_putMatches_63 rfl ?_
  refine P_icmp_ge (tgt := 150) dX17_putMatches_65 rfl h (fun h => ?_) (fun h => ?_)
  · refine S_weak (ls' := [(9, 0), (1, x1), (9, 0), (9, 0), (9, 0), (0, x5), (0, x6), (9, 0), (9, 0), (9, 0), (9, 0)]) ⟨Or.inl rfl, ⟨Or.inr rfl, ⟨Or.inl rfl, ⟨Or.inl rfl, ⟨Or.inl rfl, ⟨Or.inr rfl, ⟨Or.inr rfl, ⟨Or.inl rfl, ⟨Or.inl rfl, ⟨Or.inl rfl, ⟨Or.inl rfl, trivial⟩⟩⟩⟩⟩⟩⟩⟩⟩⟩⟩ ?_
    obtain ⟨z0, h, hz⟩ := xit_some' (P := fun r => P r) h hz
    exact s_X17_putMatches_150 hD (P := fun r => P (.inr r)) r0 h hz
  · refine S_iload dX17_putMatches_68 rfl ?_
    refine P_if_ne (tgt := 150) dX17_putMatches_70 rfl h (fun h => ?_) (fun h => ?_)
    · refine S_weak (ls' := [(9, 0), (1, x1), (9, 0), (9, 0), (9, 0), (0, x5), (0, x6), (9, 0), (9, 0), (9, 0), (9, 0)]) ⟨Or.inl rfl, ⟨Or.inr rfl, ⟨Or.inl rfl, ⟨Or.inl rfl, ⟨Or.inl rfl, ⟨Or.inr rfl, ⟨Or.inr rfl, ⟨Or.inl rfl, ⟨Or.inl rfl, ⟨Or.inl rfl, ⟨Or.inl rfl, trivial⟩⟩⟩⟩⟩⟩⟩⟩⟩⟩⟩ ?_
      obtain ⟨z0, h, hz⟩ := xit_some' (P := fun r => P r) h hz
      exact s_X17_putMatches_150 hD (P := fun r => P (.inr r)) r0 h hz
    · refine S_aload_n (i := 0) dX17_putMatches_73 rfl rfl ?_
      refine P_gfr FLX17_21 rfl dX17_putMatches_74 h (fun v1 h => ?_)
      refine P_gfr FLX17_327 rfl dX17_putMatches_77 h (fun v2 h => ?_)
      refine S_iload dX17_putMatches_80 rfl ?_
      refine P_lar (t := 9) ⟨by decide, by decide⟩ dX17_putMatches_82 h (fun v3 h => ?_)
      refine S_astore dX17_putMatches_83 (Nat.le_of_ble_eq_true rfl) rfl rfl ?_
      change Sem g d YX17_putMatches 85 [(1, x0), (1, x1), (9, 0), (9, 0), (0, x4), (0, x5), (0, x6), (9, 0), (0, x8), (0, x9), (1, v3)] [] M o
      refine S_aload_n (i := 0) dX17_putMatches_85 rfl rfl ?_
      refine P_gfr FLX17_42 rfl dX17_putMatches_86 h (fun v4 h => ?_)
      refine P_gfr FLX17_319 rfl dX17_putMatches_89 h (fun v5 h => ?_)
      refine S_aload dX17_putMatches_92 rfl ?_
      refine P_gfi FLX17_331 rfl dX17_putMatches_94 h (fun v6 h => ?_)
      refine S_aload dX17_putMatches_97 rfl ?_
      refine P_gfi FLX17_336 rfl dX17_putMatches_99 h (fun v7 h => ?_)
      refine P_invVe 0 [(0, v6), (0, v7)] [] CVX10_mayHave MLX17_356 dX17_putMatches_102 rfl rfl rfl rfl rfl (by omega) h (fun r h => F_X10_mayHave (by omega) h) (fun r1 h => ?_)
      refine P_if_ne (tgt := 111) dX17_putMatches_105 rfl h (fun h => ?_) (fun h => ?_)
      · refine S_iload dX17_putMatches_111 rfl ?_
        refine P_if_le (tgt := 122) dX17_putMatches_113 rfl h (fun h => ?_) (fun h => ?_)
        · refine S_iload dX17_putMatches_122 rfl ?_
          refine S_bipush (z := 30) dX17_putMatches_124 rfl ?_
          refine P_icmp_ne (tgt := 135) dX17_putMatches_126 rfl h (fun h => ?_) (fun h => ?_)
          · refine S_aload_n (i := 1) dX17_putMatches_135 rfl rfl ?_
            refine S_aload dX17_putMatches_136 rfl ?_
            refine P_invSm' [(1, x1), (1, v3)] [] CSX17_putPosting MLX17_359 dX17_putMatches_138 rfl rfl rfl rfl (by omega) h (fun r h => F_X17_putPosting (by omega) h) (fun M1 h => ?_)
            refine S_iinc dX17_putMatches_141 rfl rfl rfl ?_
            change Sem g d YX17_putMatches 144 [(1, x0), (1, x1), (9, 0), (9, 0), (0, x4), (0, x5 + 1), (0, x6), (9, 0), (0, x8), (0, x9), (1, v3)] [] M1 o
            refine S_weak (ls' := [(1, x0), (1, x1), (9, 0), (9, 0), (0, x4), (0, x5 + 1), (0, x6), (9, 0), (0, x8), (0, x9), (9, 0)]) ⟨Or.inr rfl, ⟨Or.inr rfl, ⟨Or.inl rfl, ⟨Or.inl rfl, ⟨Or.inr rfl, ⟨Or.inr rfl, ⟨Or.inr rfl, ⟨Or.inl rfl, ⟨Or.inr rfl, ⟨Or.inr rfl, ⟨Or.inl rfl, trivial⟩⟩⟩⟩⟩⟩⟩⟩⟩⟩⟩ ?_
            exact s_X17_putMatches_144 hD c0 r0 h hz
          · refine S_iconst dX17_putMatches_129 rfl ?_
            refine S_istore dX17_putMatches_130 (Nat.le_of_ble_eq_true rfl) rfl rfl ?_
            change Sem g d YX17_putMatches 132 [(1, x0), (1, x1), (9, 0), (9, 0), (0, x4), (0, x5), (0, 1), (9, 0), (0, x8), (0, x9), (1, v3)] [] r1.2 o
            refine S_goto (tgt := 144) dX17_putMatches_132 rfl ?_
            refine S_weak (ls' := [(1, x0), (1, x1), (9, 0), (9, 0), (0, x4), (0, x5), (0, 1), (9, 0), (0, x8), (0, x9), (9, 0)]) ⟨Or.inr rfl, ⟨Or.inr rfl, ⟨Or.inl rfl, ⟨Or.inl rfl, ⟨Or.inr rfl, ⟨Or.inr rfl, ⟨Or.inr rfl, ⟨Or.inl rfl, ⟨Or.inr rfl, ⟨Or.inr rfl, ⟨Or.inl rfl, trivial⟩⟩⟩⟩⟩⟩⟩⟩⟩⟩⟩ ?_
            exact s_X17_putMatches_144 hD c0 r0 h hz
        · refine S_iinc dX17_putMatches_116 rfl rfl rfl ?_
          change Sem g d YX17_putMatches 119 [(1, x0), (1, x1), (9, 0), (9, 0), (0, x4 + (-1)), (0, x5), (0, x6), (9, 0), (0, x8), (0, x9), (1, v3)] [] r1.2 o
          refine S_goto (tgt := 144) dX17_putMatches_119 rfl ?_
          refine S_weak (ls' := [(1, x0), (1, x1), (9, 0), (9, 0), (0, x4 + (-1)), (0, x5), (0, x6), (9, 0), (0, x8), (0, x9), (9, 0)]) ⟨Or.inr rfl, ⟨Or.inr rfl, ⟨Or.inl rfl, ⟨Or.inl rfl, ⟨Or.inr rfl, ⟨Or.inr rfl, ⟨Or.inr rfl, ⟨Or.inl rfl, ⟨Or.inr rfl, ⟨Or.inr rfl, ⟨Or.inl rfl, trivial⟩⟩⟩⟩⟩⟩⟩⟩⟩⟩⟩ ?_
          exact s_X17_putMatches_144 hD c0 r0 h hz
      · refine S_goto (tgt := 144) dX17_putMatches_108 rfl ?_
        refine S_weak (ls' := [(1, x0), (1, x1), (9, 0), (9, 0), (0, x4), (0, x5), (0, x6), (9, 0), (0, x8), (0, x9), (9, 0)]) ⟨Or.inr rfl, ⟨Or.inr rfl, ⟨Or.inl rfl, ⟨Or.inl rfl, ⟨Or.inr rfl, ⟨Or.inr rfl, ⟨Or.inr rfl, ⟨Or.inl rfl, ⟨Or.inr rfl, ⟨Or.inr rfl, ⟨Or.inl rfl, trivial⟩⟩⟩⟩⟩⟩⟩⟩⟩⟩⟩ ?_
        exact s_X17_putMatches_144 hD c0 r0 h hz
theorem sl_X17_putMatches_61 {g : GG} {d : Nat} (hD : 7 ≤ d) {x0 x1 x4 x5 x6 x8 x9 : Int} {M : MM} {o : AV × MM} {P : (MM) → Prop} (r0 : ∀ r : MM, P r → o = ((9, 0), r)) {z : MM} (h : l_X17_putMatches_61 x0 x1 x4 x5 x6 x8 x9 M = some z) (hz : P z) : Sem g d YX17_putMatches 61 [(1, x0), (1, x1), (9, 0), (9, 0), (0, x4), (0, x5), (0, x6), (9, 0), (0, x8), (0, x9), (9, 0)] [] M o := by
  refine lp_sound (S := fun s : Int × Int × Int × Int × MM => Sem g d YX17_putMatches 61 [(1, x0), (1, x1), (9, 0), (9, 0), (0, s.1), (0, s.2.1), (0, s.2.2.1), (9, 0), (0, x8), (0, s.2.2.2.1), (9, 0)] [] s.2.2.2.2 o) (P := P) ?_ FU (x4, x5, x6, x9, M) z h hz
  intro s x hx hP
  exact s_X17_putMatches_61 hD (P := Sum.elim (fun s : Int × Int × Int × Int × MM => Sem g d YX17_putMatches 61 [(1, x0), (1, x1), (9, 0), (9, 0), (0, s.1), (0, s.2.1), (0, s.2.2.1), (9, 0), (0, x8), (0, s.2.2.2.1), (9, 0)] [] s.2.2.2.2 o) P) (fun s h => h) (fun s h => r0 s h) hx hP
theorem s_X17_putMatches_0 {g : GG} {d : Nat} (hD : 7 ≤ d) {x0 x1 x2 x3 : Int} {M : MM} {o : AV × MM} {P : (MM) → Prop} (r0 : ∀ r : MM, P r → o = ((9, 0), r)) {z : MM} (h : f_X17_putMatches x0 x1 x2 x3 M = some z) (hz : P z) : Sem g d YX17_putMatches 0 [(1, x0), (1, x1), (1, x2), (1, x3), (9, 0), (9, 0), (9, 0), (9, 0), (9, 0), (9, 0), (9, 0)] [] M o := by
  delta f_X17_putMatches at h
  refine S_aload_n (i := 0) dX17_putMatches_0 rfl rfl ?_
  refine P_gfr FLX17_42 rfl dX17_putMatches_1 h (fun v1 h => ?_)
  refine P_gfr FLX17_319 rfl dX17_putMatches_4 h (fun v2 h => ?_)
  refine S_aload_n (i := 3) dX17_putMatches_7 rfl rfl ?_
  refine S_bipush (z := 47) dX17_putMatches_8 rfl ?_
  refine P_invVm' [(1, x3), (0, 47)] [] CVX10_read MLX17_348 dX17_putMatches_10 rfl rfl rfl rfl (by omega) h (fun r h => F_X10_read (by omega) h) (fun M1 h => ?_)
  refine S_aload_n (i := 3) dX17_putMatches_13 rfl rfl ?_
  refine S_bipush (z := 45) dX17_putMatches_14 rfl ?_
  refine S_iconst dX17_putMatches_16 rfl ?_
  refine P_invVp 0 [(0, 45), (0, 2)] [] CVX4_get MLX17_352 dX17_putMatches_17 rfl rfl rfl rfl rfl (by omega) h (fun r h => F_X4_get (by omega) h) (fun v3 h => ?_)
  refine S_istore dX17_putMatches_20 (Nat.le_of_ble_eq_true rfl) rfl rfl ?_
  change Sem g d YX17_putMatches 22 [(1, x0), (1, x1), (1, x2), (1, x3), (0, v3), (9, 0), (9, 0), (9, 0), (9, 0), (9, 0), (9, 0)] [] M1 o
  refine S_iconst dX17_putMatches_22 rfl ?_
  refine S_istore dX17_putMatches_23 (Nat.le_of_ble_eq_true rfl) rfl rfl ?_
  change Sem g d YX17_putMatches 25 [(1, x0), (1, x1), (1, x2), (1, x3), (0, v3), (0, 0), (9, 0), (9, 0), (9, 0), (9, 0), (9, 0)] [] M1 o
  refine S_iconst dX17_putMatches_25 rfl ?_
  refine S_istore dX17_putMatches_26 (Nat.le_of_ble_eq_true rfl) rfl rfl ?_
  change Sem g d YX17_putMatches 28 [(1, x0), (1, x1), (1, x2), (1, x3), (0, v3), (0, 0), (0, 0), (9, 0), (9, 0), (9, 0), (9, 0)] [] M1 o
  refine S_aload_n (i := 1) dX17_putMatches_28 rfl rfl ?_
  refine S_iconst dX17_putMatches_29 rfl ?_
  refine S_iconst dX17_putMatches_30 rfl ?_
  refine P_invVm' [(0, 0), (0, 2)] [] CVX4_put MLX17_284 dX17_putMatches_31 rfl rfl rfl rfl (by omega) h (fun r h => F_X4_put (by omega) h) (fun M2 h => ?_)
  refine S_aload_n (i := 0) dX17_putMatches_34 rfl rfl ?_
  refine P_gfr FLX17_21 rfl dX17_putMatches_35 h (fun v4 h => ?_)
  refine S_aload_n (i := 2) dX17_putMatches_38 rfl rfl ?_
  refine P_invVp 0 [(1, x2)] [] CVX18_first MLX17_316 dX17_putMatches_39 rfl rfl rfl rfl rfl (by omega) h (fun r h => F_X18_first (by omega) h) (fun v5 h => ?_)
  refine S_istore dX17_putMatches_42 (Nat.le_of_ble_eq_true rfl) rfl rfl ?_
  change Sem g d YX17_putMatches 44 [(1, x0), (1, x1), (1, x2), (1, x3), (0, v3), (0, 0), (0, 0), (0, v5), (9, 0), (9, 0), (9, 0)] [] M2 o
  refine S_iload dX17_putMatches_44 rfl ?_
  refine S_aload_n (i := 0) dX17_putMatches_46 rfl rfl ?_
  refine P_gfr FLX17_21 rfl dX17_putMatches_47 h (fun v6 h => ?_)
  refine S_aload_n (i := 2) dX17_putMatches_50 rfl rfl ?_
  refine P_invVp 0 [(1, x2)] [(0, v5)] CVX18_count MLX17_280 dX17_putMatches_51 rfl rfl rfl rfl rfl (by omega) h (fun r h => F_X18_count (by omega) h) (fun v7 h => ?_)
  refine S_iadd dX17_putMatches_54 ?_
  refine S_istore dX17_putMatches_55 (Nat.le_of_ble_eq_true rfl) rfl rfl ?_
  change Sem g d YX17_putMatches 57 [(1, x0), (1, x1), (1, x2), (1, x3), (0, v3), (0, 0), (0, 0), (0, v5), (0, v5 + v7), (9, 0), (9, 0)] [] M2 o
  refine S_iload dX17_putMatches_57 rfl ?_
  refine S_istore dX17_putMatches_59 (Nat.le_of_ble_eq_true rfl) rfl rfl ?_
  change Sem g d YX17_putMatches 61 [(1, x0), (1, x1), (1, x2), (1, x3), (0, v3), (0, 0), (0, 0), (0, v5), (0, v5 + v7), (0, v5), (9, 0)] [] M2 o
  refine S_weak (ls' := [(1, x0), (1, x1), (9, 0), (9, 0), (0, v3), (0, 0), (0, 0), (9, 0), (0, v5 + v7), (0, v5), (9, 0)]) ⟨Or.inr rfl, ⟨Or.inr rfl, ⟨Or.inl rfl, ⟨Or.inl rfl, ⟨Or.inr rfl, ⟨Or.inr rfl, ⟨Or.inr rfl, ⟨Or.inl rfl, ⟨Or.inr rfl, ⟨Or.inr rfl, ⟨Or.inl rfl, trivial⟩⟩⟩⟩⟩⟩⟩⟩⟩⟩⟩ ?_
  exact sl_X17_putMatches_61 hD r0 h hz
theorem F_X17_putMatches {g : GG} {d : Nat} (hD : 7 ≤ d) {x0 x1 x2 x3 : Int} {M : MM} {r : MM} (h : f_X17_putMatches x0 x1 x2 x3 M = some r) : Sem g d YX17_putMatches 0 (ini YX17_putMatches [(1, x0), (1, x1), (1, x2), (1, x3)]) [] M ((9, 0), r) := by
  change Sem g d YX17_putMatches 0 [(1, x0), (1, x1), (1, x2), (1, x3), (9, 0), (9, 0), (9, 0), (9, 0), (9, 0), (9, 0), (9, 0)] [] M ((9, 0), r)
  exact s_X17_putMatches_0 hD (P := fun x => x = r) (fun q e => by rw [e]) h rfl
/-! PeerSearch$Peer.putNodes(LPeerSearch$Packet;LPeerSearch$Key;LPeerSearch$Key;)V -/
theorem dX17_putNodes_0 : decode cX17_putNodes 0 = .ok (.aload_n 0, 1) := by decide +kernel
theorem dX17_putNodes_1 : decode cX17_putNodes 1 = .ok (.getfield 67, 3) := by decide +kernel
theorem dX17_putNodes_4 : decode cX17_putNodes 4 = .ok (.aload_n 2, 1) := by decide +kernel
theorem dX17_putNodes_5 : decode cX17_putNodes 5 = .ok (.aload_n 3, 1) := by decide +kernel
theorem dX17_putNodes_6 : decode cX17_putNodes 6 = .ok (.aload_n 0, 1) := by decide +kernel
theorem dX17_putNodes_7 : decode cX17_putNodes 7 = .ok (.getfield 42, 3) := by decide +kernel
theorem dX17_putNodes_10 : decode cX17_putNodes 10 = .ok (.getfield 306, 3) := by decide +kernel
theorem dX17_putNodes_13 : decode cX17_putNodes 13 = .ok (.invokevirtual 309, 3) := by decide +kernel
theorem dX17_putNodes_16 : decode cX17_putNodes 16 = .ok (.istore 4, 2) := by decide +kernel
theorem dX17_putNodes_18 : decode cX17_putNodes 18 = .ok (.aload_n 1, 1) := by decide +kernel
theorem dX17_putNodes_19 : decode cX17_putNodes 19 = .ok (.iload 4, 2) := by decide +kernel
theorem dX17_putNodes_21 : decode cX17_putNodes 21 = .ok (.iconst 1, 1) := by decide +kernel
theorem dX17_putNodes_22 : decode cX17_putNodes 22 = .ok (.invokevirtual 284, 3) := by decide +kernel
theorem dX17_putNodes_25 : decode cX17_putNodes 25 = .ok (.iconst 0, 1) := by decide +kernel
theorem dX17_putNodes_26 : decode cX17_putNodes 26 = .ok (.istore 5, 2) := by decide +kernel
theorem dX17_putNodes_28 : decode cX17_putNodes 28 = .ok (.iload 5, 2) := by decide +kernel
theorem dX17_putNodes_30 : decode cX17_putNodes 30 = .ok (.iload 4, 2) := by decide +kernel
theorem dX17_putNodes_32 : decode cX17_putNodes 32 = .ok (.if_icmp .ge 44, 3) := by decide +kernel
theorem dX17_putNodes_35 : decode cX17_putNodes 35 = .ok (.aload_n 1, 1) := by decide +kernel
theorem dX17_putNodes_36 : decode cX17_putNodes 36 = .ok (.aload_n 0, 1) := by decide +kernel
theorem dX17_putNodes_37 : decode cX17_putNodes 37 = .ok (.getfield 42, 3) := by decide +kernel
theorem dX17_putNodes_40 : decode cX17_putNodes 40 = .ok (.getfield 306, 3) := by decide +kernel
theorem dX17_putNodes_43 : decode cX17_putNodes 43 = .ok (.iload 5, 2) := by decide +kernel
theorem dX17_putNodes_45 : decode cX17_putNodes 45 = .ok (.aaload, 1) := by decide +kernel
theorem dX17_putNodes_46 : decode cX17_putNodes 46 = .ok (.getfield 200, 3) := by decide +kernel
theorem dX17_putNodes_49 : decode cX17_putNodes 49 = .ok (.invokevirtual 313, 3) := by decide +kernel
theorem dX17_putNodes_52 : decode cX17_putNodes 52 = .ok (.aload_n 1, 1) := by decide +kernel
theorem dX17_putNodes_53 : decode cX17_putNodes 53 = .ok (.aload_n 0, 1) := by decide +kernel
theorem dX17_putNodes_54 : decode cX17_putNodes 54 = .ok (.getfield 42, 3) := by decide +kernel
theorem dX17_putNodes_57 : decode cX17_putNodes 57 = .ok (.getfield 306, 3) := by decide +kernel
theorem dX17_putNodes_60 : decode cX17_putNodes 60 = .ok (.iload 5, 2) := by decide +kernel
theorem dX17_putNodes_62 : decode cX17_putNodes 62 = .ok (.aaload, 1) := by decide +kernel
theorem dX17_putNodes_63 : decode cX17_putNodes 63 = .ok (.getfield 203, 3) := by decide +kernel
theorem dX17_putNodes_66 : decode cX17_putNodes 66 = .ok (.iconst 1, 1) := by decide +kernel
theorem dX17_putNodes_67 : decode cX17_putNodes 67 = .ok (.invokevirtual 284, 3) := by decide +kernel
theorem dX17_putNodes_70 : decode cX17_putNodes 70 = .ok (.iinc 5 1, 3) := by decide +kernel
theorem dX17_putNodes_73 : decode cX17_putNodes 73 = .ok (.goto (-45), 3) := by decide +kernel
theorem dX17_putNodes_76 : decode cX17_putNodes 76 = .ok (.return_, 1) := by decide +kernel
def b_X17_putNodes_28 (x0 x1 x4 x5 : Int) (M : MM) : Option ((Int × MM) ⊕ (MM)) :=
  if w32 x5 < w32 x4 then
    (gfr 17 0 x0 M).bind fun v1 =>
    (gfr 6 7 v1 M).bind fun v2 =>
    (lar 6 v2 x5 M).bind fun v3 =>
    (gfr 23 0 v3 M).bind fun v4 =>
    ck 4 x1 M <| (f_X4_putKey x1 v4 M).bind fun M1 =>
    (gfr 17 0 x0 M1).bind fun v5 =>
    (gfr 6 7 v5 M1).bind fun v6 =>
    (lar 6 v6 x5 M1).bind fun v7 =>
    (gfi 23 1 v7 M1).bind fun v8 =>
    ck 4 x1 M1 <| (f_X4_put x1 v8 1 M1).bind fun M2 =>
    cnt (x5 + 1, M2)
  else
    xit (some M)
def l_X17_putNodes_28 (x0 x1 x4 x5 : Int) (M : MM) : Option (MM) := lpN (fun s : Int × MM => b_X17_putNodes_28 x0 x1 x4 s.1 s.2) FU (x5, M)
def f_X17_putNodes (x0 x1 x2 x3 : Int) (M : MM) : Option (MM) :=
  (gfr 17 5 x0 M).bind fun v1 =>
  (gfr 17 0 x0 M).bind fun v2 =>
  (gfr 6 7 v2 M).bind fun v3 =>
  ck 20 v1 M <| (f_X20_nearest v1 x2 x3 v3 M).bind fun r1 =>
  ck 4 x1 r1.2 <| (f_X4_put x1 r1.1 1 r1.2).bind fun M1 =>
  l_X17_putNodes_28 x0 x1 r1.1 0 M1
theorem s_X17_putNodes_28 {g : GG} {d : Nat} (hD : 4 ≤ d) {x0 x1 x4 x5 : Int} {M : MM} {o : AV × MM} {P : ((Int × MM) ⊕ (MM)) → Prop} (c0 : ∀ s : Int × MM, P (.inl s) → Sem g d YX17_putNodes 28 [(1, x0), (1, x1), (9, 0), (9, 0), (0, x4), (0, s.1)] [] s.2 o) (r0 : ∀ r : MM, P (.inr r) → o = ((9, 0), r)) {z : (Int × MM) ⊕ (MM)} (h : b_X17_putNodes_28 x0 x1 x4 x5 M = some z) (hz : P z) : Sem g d YX17_putNodes 28 [(1, x0), (1, x1), (9, 0), (9, 0), (0, x4), (0, x5)] [] M o := by
  delta b_X17_putNodes_28 at h
  refine S_iload dX17_putNodes_28 rfl ?_
  refine S_iload dX17_putNodes_30 rfl ?_
  refine P_icmp_ge (tgt := 76) dX17_putNodes_32 rfl h (fun h => ?_) (fun h => ?_)
  · obtain ⟨z0, h, hz⟩ := xit_some' (P := fun r => P r) h hz
    obtain rfl := r0 _ (some_P (P := fun r => P (.inr r)) h hz)
    exact S_return dX17_putNodes_76 rfl
  · refine S_aload_n (i := 1) dX17_putNodes_35 rfl rfl ?_
    refine S_aload_n (i := 0) dX17_putNodes_36 rfl rfl ?_
    refine P_gfr FLX17_42 rfl dX17_putNodes_37 h (fun v1 h => ?_)
    refine P_gfr FLX17_306 rfl dX17_putNodes_40 h (fun v2 h => ?_)
    refine S_iload dX17_putNodes_43 rfl ?_
    refine P_lar (t := 6) ⟨by decide, by decide⟩ dX17_putNodes_45 h (fun v3 h => ?_)
    refine P_gfr FLX17_200 rfl dX17_putNodes_46 h (fun v4 h => ?_)
    refine P_invVm' [(1, v4)] [] CVX4_putKey MLX17_313 dX17_putNodes_49 rfl rfl rfl rfl (by omega) h (fun r h => F_X4_putKey (by omega) h) (fun M1 h => ?_)
    refine S_aload_n (i := 1) dX17_putNodes_52 rfl rfl ?_
    refine S_aload_n (i := 0) dX17_putNodes_53 rfl rfl ?_
    refine P_gfr FLX17_42 rfl dX17_putNodes_54 h (fun v5 h => ?_)
    refine P_gfr FLX17_306 rfl dX17_putNodes_57 h (fun v6 h => ?_)
    refine S_iload dX17_putNodes_60 rfl ?_
    refine P_lar (t := 6) ⟨by decide, by decide⟩ dX17_putNodes_62 h (fun v7 h => ?_)
    refine P_gfi FLX17_203 rfl dX17_putNodes_63 h (fun v8 h => ?_)
    refine S_iconst dX17_putNodes_66 rfl ?_
    refine P_invVm' [(0, v8), (0, 1)] [] CVX4_put MLX17_284 dX17_putNodes_67 rfl rfl rfl rfl (by omega) h (fun r h => F_X4_put (by omega) h) (fun M2 h => ?_)
    refine S_iinc dX17_putNodes_70 rfl rfl rfl ?_
    change Sem g d YX17_putNodes 73 [(1, x0), (1, x1), (9, 0), (9, 0), (0, x4), (0, x5 + 1)] [] M2 o
    refine S_goto (tgt := 28) dX17_putNodes_73 rfl ?_
    exact c0 (x5 + 1, M2) (some_P (P := fun r => P r) h hz)
theorem sl_X17_putNodes_28 {g : GG} {d : Nat} (hD : 4 ≤ d) {x0 x1 x4 x5 : Int} {M : MM} {o : AV × MM} {P : (MM) → Prop} (r0 : ∀ r : MM, P r → o = ((9, 0), r)) {z : MM} (h : l_X17_putNodes_28 x0 x1 x4 x5 M = some z) (hz : P z) : Sem g d YX17_putNodes 28 [(1, x0), (1, x1), (9, 0), (9, 0), (0, x4), (0, x5)] [] M o := by
  refine lp_sound (S := fun s : Int × MM => Sem g d YX17_putNodes 28 [(1, x0), (1, x1), (9, 0), (9, 0), (0, x4), (0, s.1)] [] s.2 o) (P := P) ?_ FU (x5, M) z h hz
  intro s x hx hP
  exact s_X17_putNodes_28 hD (P := Sum.elim (fun s : Int × MM => Sem g d YX17_putNodes 28 [(1, x0), (1, x1), (9, 0), (9, 0), (0, x4), (0, s.1)] [] s.2 o) P) (fun s h => h) (fun s h => r0 s h) hx hP
theorem s_X17_putNodes_0 {g : GG} {d : Nat} (hD : 4 ≤ d) {x0 x1 x2 x3 : Int} {M : MM} {o : AV × MM} {P : (MM) → Prop} (r0 : ∀ r : MM, P r → o = ((9, 0), r)) {z : MM} (h : f_X17_putNodes x0 x1 x2 x3 M = some z) (hz : P z) : Sem g d YX17_putNodes 0 [(1, x0), (1, x1), (1, x2), (1, x3), (9, 0), (9, 0)] [] M o := by
  delta f_X17_putNodes at h
  refine S_aload_n (i := 0) dX17_putNodes_0 rfl rfl ?_
  refine P_gfr FLX17_67 rfl dX17_putNodes_1 h (fun v1 h => ?_)
  refine S_aload_n (i := 2) dX17_putNodes_4 rfl rfl ?_
  refine S_aload_n (i := 3) dX17_putNodes_5 rfl rfl ?_
  refine S_aload_n (i := 0) dX17_putNodes_6 rfl rfl ?_
  refine P_gfr FLX17_42 rfl dX17_putNodes_7 h (fun v2 h => ?_)
  refine P_gfr FLX17_306 rfl dX17_putNodes_10 h (fun v3 h => ?_)
  refine P_invVe 0 [(1, x2), (1, x3), (1, v3)] [] CVX20_nearest MLX17_309 dX17_putNodes_13 rfl rfl rfl rfl rfl (by omega) h (fun r h => F_X20_nearest (by omega) h) (fun r1 h => ?_)
  refine S_istore dX17_putNodes_16 (Nat.le_of_ble_eq_true rfl) rfl rfl ?_
  change Sem g d YX17_putNodes 18 [(1, x0), (1, x1), (1, x2), (1, x3), (0, r1.1), (9, 0)] [] r1.2 o
  refine S_aload_n (i := 1) dX17_putNodes_18 rfl rfl ?_
  refine S_iload dX17_putNodes_19 rfl ?_
  refine S_iconst dX17_putNodes_21 rfl ?_
  refine P_invVm' [(0, r1.1), (0, 1)] [] CVX4_put MLX17_284 dX17_putNodes_22 rfl rfl rfl rfl (by omega) h (fun r h => F_X4_put (by omega) h) (fun M1 h => ?_)
  refine S_iconst dX17_putNodes_25 rfl ?_
  refine S_istore dX17_putNodes_26 (Nat.le_of_ble_eq_true rfl) rfl rfl ?_
  change Sem g d YX17_putNodes 28 [(1, x0), (1, x1), (1, x2), (1, x3), (0, r1.1), (0, 0)] [] M1 o
  refine S_weak (ls' := [(1, x0), (1, x1), (9, 0), (9, 0), (0, r1.1), (0, 0)]) ⟨Or.inr rfl, ⟨Or.inr rfl, ⟨Or.inl rfl, ⟨Or.inl rfl, ⟨Or.inr rfl, ⟨Or.inr rfl, trivial⟩⟩⟩⟩⟩⟩ ?_
  exact sl_X17_putNodes_28 hD r0 h hz
theorem F_X17_putNodes {g : GG} {d : Nat} (hD : 4 ≤ d) {x0 x1 x2 x3 : Int} {M : MM} {r : MM} (h : f_X17_putNodes x0 x1 x2 x3 M = some r) : Sem g d YX17_putNodes 0 (ini YX17_putNodes [(1, x0), (1, x1), (1, x2), (1, x3)]) [] M ((9, 0), r) := by
  change Sem g d YX17_putNodes 0 [(1, x0), (1, x1), (1, x2), (1, x3), (9, 0), (9, 0)] [] M ((9, 0), r)
  exact s_X17_putNodes_0 hD (P := fun x => x = r) (fun q e => by rw [e]) h rfl
/-! PeerSearch$Store.isEarlier(LPeerSearch$Packet;I)Z -/
theorem dX18_isEarlier_0 : decode cX18_isEarlier 0 = .ok (.iconst 0, 1) := by decide +kernel
theorem dX18_isEarlier_1 : decode cX18_isEarlier 1 = .ok (.istore_n 2, 1) := by decide +kernel
theorem dX18_isEarlier_2 : decode cX18_isEarlier 2 = .ok (.iload_n 2, 1) := by decide +kernel
theorem dX18_isEarlier_3 : decode cX18_isEarlier 3 = .ok (.iload_n 1, 1) := by decide +kernel
theorem dX18_isEarlier_4 : decode cX18_isEarlier 4 = .ok (.if_icmp .ge 36, 3) := by decide +kernel
theorem dX18_isEarlier_7 : decode cX18_isEarlier 7 = .ok (.aload_n 0, 1) := by decide +kernel
theorem dX18_isEarlier_8 : decode cX18_isEarlier 8 = .ok (.bipush 46, 2) := by decide +kernel
theorem dX18_isEarlier_10 : decode cX18_isEarlier 10 = .ok (.iconst 3, 1) := by decide +kernel
theorem dX18_isEarlier_11 : decode cX18_isEarlier 11 = .ok (.iload_n 2, 1) := by decide +kernel
theorem dX18_isEarlier_12 : decode cX18_isEarlier 12 = .ok (.imul, 1) := by decide +kernel
theorem dX18_isEarlier_13 : decode cX18_isEarlier 13 = .ok (.iadd, 1) := by decide +kernel
theorem dX18_isEarlier_14 : decode cX18_isEarlier 14 = .ok (.iconst 2, 1) := by decide +kernel
theorem dX18_isEarlier_15 : decode cX18_isEarlier 15 = .ok (.invokevirtual 62, 3) := by decide +kernel
theorem dX18_isEarlier_18 : decode cX18_isEarlier 18 = .ok (.aload_n 0, 1) := by decide +kernel
theorem dX18_isEarlier_19 : decode cX18_isEarlier 19 = .ok (.bipush 46, 2) := by decide +kernel
theorem dX18_isEarlier_21 : decode cX18_isEarlier 21 = .ok (.iconst 3, 1) := by decide +kernel
theorem dX18_isEarlier_22 : decode cX18_isEarlier 22 = .ok (.iload_n 1, 1) := by decide +kernel
theorem dX18_isEarlier_23 : decode cX18_isEarlier 23 = .ok (.imul, 1) := by decide +kernel
theorem dX18_isEarlier_24 : decode cX18_isEarlier 24 = .ok (.iadd, 1) := by decide +kernel
theorem dX18_isEarlier_25 : decode cX18_isEarlier 25 = .ok (.iconst 2, 1) := by decide +kernel
theorem dX18_isEarlier_26 : decode cX18_isEarlier 26 = .ok (.invokevirtual 62, 3) := by decide +kernel
theorem dX18_isEarlier_29 : decode cX18_isEarlier 29 = .ok (.if_icmp .ne 5, 3) := by decide +kernel
theorem dX18_isEarlier_32 : decode cX18_isEarlier 32 = .ok (.iconst 1, 1) := by decide +kernel
theorem dX18_isEarlier_33 : decode cX18_isEarlier 33 = .ok (.ireturn, 1) := by decide +kernel
theorem dX18_isEarlier_34 : decode cX18_isEarlier 34 = .ok (.iinc 2 1, 3) := by decide +kernel
theorem dX18_isEarlier_37 : decode cX18_isEarlier 37 = .ok (.goto (-35), 3) := by decide +kernel
theorem dX18_isEarlier_40 : decode cX18_isEarlier 40 = .ok (.iconst 0, 1) := by decide +kernel
theorem dX18_isEarlier_41 : decode cX18_isEarlier 41 = .ok (.ireturn, 1) := by decide +kernel
def b_X18_isEarlier_2 (x0 x1 x2 : Int) (M : MM) : Option ((Int) ⊕ (Int)) :=
  if w32 x2 < w32 x1 then
    ck 4 x0 M <| (f_X4_get x0 (46 + (3 * x2)) 2 M).bind fun v1 =>
    ck 4 x0 M <| (f_X4_get x0 (46 + (3 * x1)) 2 M).bind fun v2 =>
    if w32 v1 = w32 v2 then
      xit (some 1)
    else
      cnt (x2 + 1)
  else
    xit (some 0)
def l_X18_isEarlier_2 (x0 x1 x2 : Int) (M : MM) : Option (Int) := lpN (fun s : Int => b_X18_isEarlier_2 x0 x1 s M) FU x2
def f_X18_isEarlier (x0 x1 : Int) (M : MM) : Option (Int) :=
  l_X18_isEarlier_2 x0 x1 0 M
theorem s_X18_isEarlier_2 {g : GG} {d : Nat} (hD : 1 ≤ d) {x0 x1 x2 : Int} {M : MM} {o : AV × MM} {P : ((Int) ⊕ (Int)) → Prop} (c0 : ∀ s : Int, P (.inl s) → Sem g d YX18_isEarlier 2 [(1, x0), (0, x1), (0, s)] [] M o) (r0 : ∀ r : Int, P (.inr r) → o = ((0, r), M)) {z : (Int) ⊕ (Int)} (h : b_X18_isEarlier_2 x0 x1 x2 M = some z) (hz : P z) : Sem g d YX18_isEarlier 2 [(1, x0), (0, x1), (0, x2)] [] M o := by
  delta b_X18_isEarlier_2 at h
  refine S_iload_n (i := 2) dX18_isEarlier_2 rfl rfl ?_
  refine S_iload_n (i := 1) dX18_isEarlier_3 rfl rfl ?_
  refine P_icmp_ge (tgt := 40) dX18_isEarlier_4 rfl h (fun h => ?_) (fun h => ?_)
  · obtain ⟨z0, h, hz⟩ := xit_some' (P := fun r => P r) h hz
    refine S_iconst dX18_isEarlier_40 rfl ?_
    obtain rfl := r0 _ (some_P (P := fun r => P (.inr r)) h hz)
    exact P_ret dX18_isEarlier_41 rfl (Or.inr ⟨rfl, Or.inl rfl⟩)
  · refine S_aload_n (i := 0) dX18_isEarlier_7 rfl rfl ?_
    refine S_bipush (z := 46) dX18_isEarlier_8 rfl ?_
    refine S_iconst dX18_isEarlier_10 rfl ?_
    refine S_iload_n (i := 2) dX18_isEarlier_11 rfl rfl ?_
    refine S_imul dX18_isEarlier_12 ?_
    refine S_iadd dX18_isEarlier_13 ?_
    refine S_iconst dX18_isEarlier_14 rfl ?_
    refine P_invVp 0 [(0, 46 + (3 * x2)), (0, 2)] [] CVX4_get MLX18_62 dX18_isEarlier_15 rfl rfl rfl rfl rfl (by omega) h (fun r h => F_X4_get (by omega) h) (fun v1 h => ?_)
    refine S_aload_n (i := 0) dX18_isEarlier_18 rfl rfl ?_
    refine S_bipush (z := 46) dX18_isEarlier_19 rfl ?_
    refine S_iconst dX18_isEarlier_21 rfl ?_
    refine S_iload_n (i := 1) dX18_isEarlier_22 rfl rfl ?_
    refine S_imul dX18_isEarlier_23 ?_
    refine S_iadd dX18_isEarlier_24 ?_
    refine S_iconst dX18_isEarlier_25 rfl ?_
    refine P_invVp 0 [(0, 46 + (3 * x1)), (0, 2)] [(0, v1)] CVX4_get MLX18_62 dX18_isEarlier_26 rfl rfl rfl rfl rfl (by omega) h (fun r h => F_X4_get (by omega) h) (fun v2 h => ?_)
    refine P_icmp_ne (tgt := 34) dX18_isEarlier_29 rfl h (fun h => ?_) (fun h => ?_)
    · refine S_iinc dX18_isEarlier_34 rfl rfl rfl ?_
      change Sem g d YX18_isEarlier 37 [(1, x0), (0, x1), (0, x2 + 1)] [] M o
      refine S_goto (tgt := 2) dX18_isEarlier_37 rfl ?_
      exact c0 (x2 + 1) (some_P (P := fun r => P r) h hz)
    · obtain ⟨z0, h, hz⟩ := xit_some' (P := fun r => P r) h hz
      refine S_iconst dX18_isEarlier_32 rfl ?_
      obtain rfl := r0 _ (some_P (P := fun r => P (.inr r)) h hz)
      exact P_ret dX18_isEarlier_33 rfl (Or.inr ⟨rfl, Or.inr rfl⟩)
theorem sl_X18_isEarlier_2 {g : GG} {d : Nat} (hD : 1 ≤ d) {x0 x1 x2 : Int} {M : MM} {o : AV × MM} {P : (Int) → Prop} (r0 : ∀ r : Int, P r → o = ((0, r), M)) {z : Int} (h : l_X18_isEarlier_2 x0 x1 x2 M = some z) (hz : P z) : Sem g d YX18_isEarlier 2 [(1, x0), (0, x1), (0, x2)] [] M o := by
  refine lp_sound (S := fun s : Int => Sem g d YX18_isEarlier 2 [(1, x0), (0, x1), (0, s)] [] M o) (P := P) ?_ FU x2 z h hz
  intro s x hx hP
  exact s_X18_isEarlier_2 hD (P := Sum.elim (fun s : Int => Sem g d YX18_isEarlier 2 [(1, x0), (0, x1), (0, s)] [] M o) P) (fun s h => h) (fun s h => r0 s h) hx hP
theorem s_X18_isEarlier_0 {g : GG} {d : Nat} (hD : 1 ≤ d) {x0 x1 : Int} {M : MM} {o : AV × MM} {P : (Int) → Prop} (r0 : ∀ r : Int, P r → o = ((0, r), M)) {z : Int} (h : f_X18_isEarlier x0 x1 M = some z) (hz : P z) : Sem g d YX18_isEarlier 0 [(1, x0), (0, x1), (9, 0)] [] M o := by
  delta f_X18_isEarlier at h
  refine S_iconst dX18_isEarlier_0 rfl ?_
  refine S_istore_n (i := 2) dX18_isEarlier_1 rfl (Nat.le_of_ble_eq_true rfl) rfl rfl ?_
  change Sem g d YX18_isEarlier 2 [(1, x0), (0, x1), (0, 0)] [] M o
  exact sl_X18_isEarlier_2 hD r0 h hz
theorem F_X18_isEarlier {g : GG} {d : Nat} (hD : 1 ≤ d) {x0 x1 : Int} {M : MM} {r : Int} (h : f_X18_isEarlier x0 x1 M = some r) : Sem g d YX18_isEarlier 0 (ini YX18_isEarlier [(1, x0), (0, x1)]) [] M ((0, r), M) := by
  change Sem g d YX18_isEarlier 0 [(1, x0), (0, x1), (9, 0)] [] M ((0, r), M)
  exact s_X18_isEarlier_0 hD (P := fun x => x = r) (fun q e => by rw [e]) h rfl
/-! PeerSearch$Posting.<init>()V -/
theorem dX28_init_0 : decode cX28_init 0 = .ok (.aload_n 0, 1) := by decide +kernel
theorem dX28_init_1 : decode cX28_init 1 = .ok (.invokespecial 1, 3) := by decide +kernel
theorem dX28_init_4 : decode cX28_init 4 = .ok (.aload_n 0, 1) := by decide +kernel
theorem dX28_init_5 : decode cX28_init 5 = .ok (.new 7, 3) := by decide +kernel
theorem dX28_init_8 : decode cX28_init 8 = .ok (.dup, 1) := by decide +kernel
theorem dX28_init_9 : decode cX28_init 9 = .ok (.invokespecial 9, 3) := by decide +kernel
theorem dX28_init_12 : decode cX28_init 12 = .ok (.putfield 10, 3) := by decide +kernel
theorem dX28_init_15 : decode cX28_init 15 = .ok (.return_, 1) := by decide +kernel
def f_X28_init (x0 : Int) (M : MM) : Option (MM) :=
  nn x0 <|
  (nob 3 1 32 M).bind fun r1 =>
  nn r1.1 <| (f_X3_init r1.1 r1.2).bind fun M1 =>
  (pfr 28 0 x0 r1.1 M1).bind fun M2 =>
  some M2
theorem s_X28_init_0 {g : GG} {d : Nat} (hD : 2 ≤ d) {x0 : Int} {M : MM} {o : AV × MM} {P : (MM) → Prop} (r0 : ∀ r : MM, P r → o = ((9, 0), r)) {z : MM} (h : f_X28_init x0 M = some z) (hz : P z) : Sem g d YX28_init 0 [(1, x0)] [] M o := by
  delta f_X28_init at h
  refine S_aload_n (i := 0) dX28_init_0 rfl rfl ?_
  refine P_obj q1504 dX28_init_1 rfl (by omega) h (fun h => ?_)
  refine S_aload_n (i := 0) dX28_init_4 rfl rfl ?_
  refine P_nob NLX28_7 rfl dX28_init_5 h (fun r1 h => ?_)
  refine S_dup dX28_init_8 (Nat.le_of_ble_eq_true rfl) ?_
  refine P_invI' [] [(1, r1.1), (1, x0)] CIX3_init MLX28_9 dX28_init_9 rfl rfl rfl rfl (by omega) h (fun r h => F_X3_init (by omega) h) (fun M1 h => ?_)
  refine P_pfr FLX28_10 FPX28_10 (Or.inl ⟨_, rfl⟩) rfl dX28_init_12 h (fun M2 h => ?_)
  obtain rfl := r0 _ (some_P (P := fun r => P r) h hz)
  exact S_return dX28_init_15 rfl
theorem F_X28_init {g : GG} {d : Nat} (hD : 2 ≤ d) {x0 : Int} {M : MM} {r : MM} (h : f_X28_init x0 M = some r) : Sem g d YX28_init 0 (ini YX28_init [(1, x0)]) [] M ((9, 0), r) := by
  change Sem g d YX28_init 0 [(1, x0)] [] M ((9, 0), r)
  exact s_X28_init_0 hD (P := fun x => x = r) (fun q e => by rw [e]) h rfl
/-! PeerSearch$Store.put(LPeerSearch$Key;IIII)V -/
theorem dX18_put_0 : decode cX18_put 0 = .ok (.aload_n 0, 1) := by decide +kernel
theorem dX18_put_1 : decode cX18_put 1 = .ok (.aload_n 1, 1) := by decide +kernel
theorem dX18_put_2 : decode cX18_put 2 = .ok (.iload_n 2, 1) := by decide +kernel
theorem dX18_put_3 : decode cX18_put 3 = .ok (.iload_n 3, 1) := by decide +kernel
theorem dX18_put_4 : decode cX18_put 4 = .ok (.invokevirtual 44, 3) := by decide +kernel
theorem dX18_put_7 : decode cX18_put 7 = .ok (.istore 6, 2) := by decide +kernel
theorem dX18_put_9 : decode cX18_put 9 = .ok (.iload 6, 2) := by decide +kernel
theorem dX18_put_11 : decode cX18_put 11 = .ok (.aload_n 0, 1) := by decide +kernel
theorem dX18_put_12 : decode cX18_put 12 = .ok (.getfield 38, 3) := by decide +kernel
theorem dX18_put_15 : decode cX18_put 15 = .ok (.if_icmp .eq 19, 3) := by decide +kernel
theorem dX18_put_18 : decode cX18_put 18 = .ok (.aload_n 0, 1) := by decide +kernel
theorem dX18_put_19 : decode cX18_put 19 = .ok (.getfield 13, 3) := by decide +kernel
theorem dX18_put_22 : decode cX18_put 22 = .ok (.iload 6, 2) := by decide +kernel
theorem dX18_put_24 : decode cX18_put 24 = .ok (.aaload, 1) := by decide +kernel
theorem dX18_put_25 : decode cX18_put 25 = .ok (.aload_n 1, 1) := by decide +kernel
theorem dX18_put_26 : decode cX18_put 26 = .ok (.iload_n 2, 1) := by decide +kernel
theorem dX18_put_27 : decode cX18_put 27 = .ok (.iload_n 3, 1) := by decide +kernel
theorem dX18_put_28 : decode cX18_put 28 = .ok (.invokestatic 41, 3) := by decide +kernel
theorem dX18_put_31 : decode cX18_put 31 = .ok (.ifCond .eq 117, 3) := by decide +kernel
theorem dX18_put_34 : decode cX18_put 34 = .ok (.aload_n 0, 1) := by decide +kernel
theorem dX18_put_35 : decode cX18_put 35 = .ok (.getfield 13, 3) := by decide +kernel
theorem dX18_put_38 : decode cX18_put 38 = .ok (.aload_n 0, 1) := by decide +kernel
theorem dX18_put_39 : decode cX18_put 39 = .ok (.getfield 38, 3) := by decide +kernel
theorem dX18_put_42 : decode cX18_put 42 = .ok (.aaload, 1) := by decide +kernel
theorem dX18_put_43 : decode cX18_put 43 = .ok (.ifnonnull 19, 3) := by decide +kernel
theorem dX18_put_46 : decode cX18_put 46 = .ok (.aload_n 0, 1) := by decide +kernel
theorem dX18_put_47 : decode cX18_put 47 = .ok (.getfield 13, 3) := by decide +kernel
theorem dX18_put_50 : decode cX18_put 50 = .ok (.aload_n 0, 1) := by decide +kernel
theorem dX18_put_51 : decode cX18_put 51 = .ok (.getfield 38, 3) := by decide +kernel
theorem dX18_put_54 : decode cX18_put 54 = .ok (.new 11, 3) := by decide +kernel
theorem dX18_put_57 : decode cX18_put 57 = .ok (.dup, 1) := by decide +kernel
theorem dX18_put_58 : decode cX18_put 58 = .ok (.invokespecial 51, 3) := by decide +kernel
theorem dX18_put_61 : decode cX18_put 61 = .ok (.aastore, 1) := by decide +kernel
theorem dX18_put_62 : decode cX18_put 62 = .ok (.aload_n 0, 1) := by decide +kernel
theorem dX18_put_63 : decode cX18_put 63 = .ok (.getfield 13, 3) := by decide +kernel
theorem dX18_put_66 : decode cX18_put 66 = .ok (.aload_n 0, 1) := by decide +kernel
theorem dX18_put_67 : decode cX18_put 67 = .ok (.getfield 38, 3) := by decide +kernel
theorem dX18_put_70 : decode cX18_put 70 = .ok (.aaload, 1) := by decide +kernel
theorem dX18_put_71 : decode cX18_put 71 = .ok (.astore 7, 2) := by decide +kernel
theorem dX18_put_73 : decode cX18_put 73 = .ok (.aload_n 0, 1) := by decide +kernel
theorem dX18_put_74 : decode cX18_put 74 = .ok (.getfield 38, 3) := by decide +kernel
theorem dX18_put_77 : decode cX18_put 77 = .ok (.istore 8, 2) := by decide +kernel
theorem dX18_put_79 : decode cX18_put 79 = .ok (.iload 8, 2) := by decide +kernel
theorem dX18_put_81 : decode cX18_put 81 = .ok (.iload 6, 2) := by decide +kernel
theorem dX18_put_83 : decode cX18_put 83 = .ok (.if_icmp .le 25, 3) := by decide +kernel
theorem dX18_put_86 : decode cX18_put 86 = .ok (.aload_n 0, 1) := by decide +kernel
theorem dX18_put_87 : decode cX18_put 87 = .ok (.getfield 13, 3) := by decide +kernel
theorem dX18_put_90 : decode cX18_put 90 = .ok (.iload 8, 2) := by decide +kernel
theorem dX18_put_92 : decode cX18_put 92 = .ok (.aload_n 0, 1) := by decide +kernel
theorem dX18_put_93 : decode cX18_put 93 = .ok (.getfield 13, 3) := by decide +kernel
theorem dX18_put_96 : decode cX18_put 96 = .ok (.iload 8, 2) := by decide +kernel
theorem dX18_put_98 : decode cX18_put 98 = .ok (.iconst 1, 1) := by decide +kernel
theorem dX18_put_99 : decode cX18_put 99 = .ok (.isub, 1) := by decide +kernel
theorem dX18_put_100 : decode cX18_put 100 = .ok (.aaload, 1) := by decide +kernel
theorem dX18_put_101 : decode cX18_put 101 = .ok (.aastore, 1) := by decide +kernel
theorem dX18_put_102 : decode cX18_put 102 = .ok (.iinc 8 (-1), 3) := by decide +kernel
theorem dX18_put_105 : decode cX18_put 105 = .ok (.goto (-26), 3) := by decide +kernel
theorem dX18_put_108 : decode cX18_put 108 = .ok (.aload_n 0, 1) := by decide +kernel
theorem dX18_put_109 : decode cX18_put 109 = .ok (.getfield 13, 3) := by decide +kernel
theorem dX18_put_112 : decode cX18_put 112 = .ok (.iload 6, 2) := by decide +kernel
theorem dX18_put_114 : decode cX18_put 114 = .ok (.aload 7, 2) := by decide +kernel
theorem dX18_put_116 : decode cX18_put 116 = .ok (.aastore, 1) := by decide +kernel
theorem dX18_put_117 : decode cX18_put 117 = .ok (.aload_n 0, 1) := by decide +kernel
theorem dX18_put_118 : decode cX18_put 118 = .ok (.dup, 1) := by decide +kernel
theorem dX18_put_119 : decode cX18_put 119 = .ok (.getfield 38, 3) := by decide +kernel
theorem dX18_put_122 : decode cX18_put 122 = .ok (.iconst 1, 1) := by decide +kernel
theorem dX18_put_123 : decode cX18_put 123 = .ok (.iadd, 1) := by decide +kernel
theorem dX18_put_124 : decode cX18_put 124 = .ok (.putfield 38, 3) := by decide +kernel
theorem dX18_put_127 : decode cX18_put 127 = .ok (.aload 7, 2) := by decide +kernel
theorem dX18_put_129 : decode cX18_put 129 = .ok (.getfield 26, 3) := by decide +kernel
theorem dX18_put_132 : decode cX18_put 132 = .ok (.aload_n 1, 1) := by decide +kernel
theorem dX18_put_133 : decode cX18_put 133 = .ok (.invokevirtual 52, 3) := by decide +kernel
theorem dX18_put_136 : decode cX18_put 136 = .ok (.aload 7, 2) := by decide +kernel
theorem dX18_put_138 : decode cX18_put 138 = .ok (.iload_n 2, 1) := by decide +kernel
theorem dX18_put_139 : decode cX18_put 139 = .ok (.putfield 31, 3) := by decide +kernel
theorem dX18_put_142 : decode cX18_put 142 = .ok (.aload 7, 2) := by decide +kernel
theorem dX18_put_144 : decode cX18_put 144 = .ok (.iload_n 3, 1) := by decide +kernel
theorem dX18_put_145 : decode cX18_put 145 = .ok (.putfield 35, 3) := by decide +kernel
theorem dX18_put_148 : decode cX18_put 148 = .ok (.aload_n 0, 1) := by decide +kernel
theorem dX18_put_149 : decode cX18_put 149 = .ok (.getfield 13, 3) := by decide +kernel
theorem dX18_put_152 : decode cX18_put 152 = .ok (.iload 6, 2) := by decide +kernel
theorem dX18_put_154 : decode cX18_put 154 = .ok (.aaload, 1) := by decide +kernel
theorem dX18_put_155 : decode cX18_put 155 = .ok (.iload 4, 2) := by decide +kernel
theorem dX18_put_157 : decode cX18_put 157 = .ok (.putfield 56, 3) := by decide +kernel
theorem dX18_put_160 : decode cX18_put 160 = .ok (.aload_n 0, 1) := by decide +kernel
theorem dX18_put_161 : decode cX18_put 161 = .ok (.getfield 13, 3) := by decide +kernel
theorem dX18_put_164 : decode cX18_put 164 = .ok (.iload 6, 2) := by decide +kernel
theorem dX18_put_166 : decode cX18_put 166 = .ok (.aaload, 1) := by decide +kernel
theorem dX18_put_167 : decode cX18_put 167 = .ok (.iload 5, 2) := by decide +kernel
theorem dX18_put_169 : decode cX18_put 169 = .ok (.putfield 59, 3) := by decide +kernel
theorem dX18_put_172 : decode cX18_put 172 = .ok (.return_, 1) := by decide +kernel
def j_X18_put_148 (x0 x4 x5 x6 : Int) (M : MM) : Option (MM) :=
  (gfr 18 0 x0 M).bind fun v1 =>
  (lar 9 v1 x6 M).bind fun v2 =>
  (pfi 28 3 v2 x4 M).bind fun M1 =>
  (gfr 18 0 x0 M1).bind fun v3 =>
  (lar 9 v3 x6 M1).bind fun v4 =>
  (pfi 28 4 v4 x5 M1).bind fun M2 =>
  some M2
def j_X18_put_108 (x0 x1 x2 x3 x4 x5 x6 x7 : Int) (M : MM) : Option (MM) :=
  (gfr 18 0 x0 M).bind fun v1 =>
  (sar 9 v1 x6 x7 M).bind fun M1 =>
  (gfi 18 1 x0 M1).bind fun v2 =>
  (pfi 18 1 x0 (v2 + 1) M1).bind fun M2 =>
  (gfr 28 0 x7 M2).bind fun v3 =>
  ck 3 v3 M2 <| (f_X3_set v3 x1 M2).bind fun M3 =>
  (pfi 28 1 x7 x2 M3).bind fun M4 =>
  (pfi 28 2 x7 x3 M4).bind fun M5 =>
  j_X18_put_148 x0 x4 x5 x6 M5
def b_X18_put_79 (x0 x1 x2 x3 x4 x5 x6 x7 x8 : Int) (M : MM) : Option ((Int × MM) ⊕ (MM)) :=
  if w32 x6 < w32 x8 then
    (gfr 18 0 x0 M).bind fun v1 =>
    (gfr 18 0 x0 M).bind fun v2 =>
    (lar 9 v2 (x8 - 1) M).bind fun v3 =>
    (sar 9 v1 x8 v3 M).bind fun M1 =>
    cnt (x8 + (-1), M1)
  else
    xit (j_X18_put_108 x0 x1 x2 x3 x4 x5 x6 x7 M)
def l_X18_put_79 (x0 x1 x2 x3 x4 x5 x6 x7 x8 : Int) (M : MM) : Option (MM) := lpN (fun s : Int × MM => b_X18_put_79 x0 x1 x2 x3 x4 x5 x6 x7 s.1 s.2) FU (x8, M)
def j_X18_put_62 (x0 x1 x2 x3 x4 x5 x6 : Int) (M : MM) : Option (MM) :=
  (gfr 18 0 x0 M).bind fun v1 =>
  (gfi 18 1 x0 M).bind fun v2 =>
  (lar 9 v1 v2 M).bind fun v3 =>
  (gfi 18 1 x0 M).bind fun v4 =>
  l_X18_put_79 x0 x1 x2 x3 x4 x5 x6 v3 v4 M
def j_X18_put_34 (x0 x1 x2 x3 x4 x5 x6 : Int) (M : MM) : Option (MM) :=
  (gfr 18 0 x0 M).bind fun v1 =>
  (gfi 18 1 x0 M).bind fun v2 =>
  (lar 9 v1 v2 M).bind fun v3 =>
  if v3 = -1 then
    (gfr 18 0 x0 M).bind fun v4 =>
    (gfi 18 1 x0 M).bind fun v5 =>
    (nob 28 5 33 M).bind fun r1 =>
    nn r1.1 <| (f_X28_init r1.1 r1.2).bind fun M1 =>
    (sar 9 v4 v5 r1.1 M1).bind fun M2 =>
    j_X18_put_62 x0 x1 x2 x3 x4 x5 x6 M2
  else
    j_X18_put_62 x0 x1 x2 x3 x4 x5 x6 M
def f_X18_put (x0 x1 x2 x3 x4 x5 : Int) (M : MM) : Option (MM) :=
  ck 18 x0 M <| (f_X18_place x0 x1 x2 x3 M).bind fun v1 =>
  (gfi 18 1 x0 M).bind fun v2 =>
  if w32 v1 = w32 v2 then
    j_X18_put_34 x0 x1 x2 x3 x4 x5 v1 M
  else
    (gfr 18 0 x0 M).bind fun v3 =>
    (lar 9 v3 v1 M).bind fun v4 =>
    (f_X18_compare v4 x1 x2 x3 M).bind fun v5 =>
    if w32 v5 = 0 then
      j_X18_put_148 x0 x4 x5 v1 M
    else
      j_X18_put_34 x0 x1 x2 x3 x4 x5 v1 M
theorem s_X18_put_148 {g : GG} {d : Nat} (hD : 5 ≤ d) {x0 x4 x5 x6 : Int} {M : MM} {o : AV × MM} {P : (MM) → Prop} (r0 : ∀ r : MM, P r → o = ((9, 0), r)) {z : MM} (h : j_X18_put_148 x0 x4 x5 x6 M = some z) (hz : P z) : Sem g d YX18_put 148 [(1, x0), (9, 0), (9, 0), (9, 0), (0, x4), (0, x5), (0, x6), (9, 0), (9, 0)] [] M o := by
  delta j_X18_put_148 at h
  refine S_aload_n (i := 0) dX18_put_148 rfl rfl ?_
  refine P_gfr FLX18_13 rfl dX18_put_149 h (fun v1 h => ?_)
  refine S_iload dX18_put_152 rfl ?_
  refine P_lar (t := 9) ⟨by decide, by decide⟩ dX18_put_154 h (fun v2 h => ?_)
  refine S_iload dX18_put_155 rfl ?_
  refine P_pfi FLX18_56 FPX18_56 rfl dX18_put_157 h (fun M1 h => ?_)
  refine S_aload_n (i := 0) dX18_put_160 rfl rfl ?_
  refine P_gfr FLX18_13 rfl dX18_put_161 h (fun v3 h => ?_)
  refine S_iload dX18_put_164 rfl ?_
  refine P_lar (t := 9) ⟨by decide, by decide⟩ dX18_put_166 h (fun v4 h => ?_)
  refine S_iload dX18_put_167 rfl ?_
  refine P_pfi FLX18_59 FPX18_59 rfl dX18_put_169 h (fun M2 h => ?_)
  obtain rfl := r0 _ (some_P (P := fun r => P r) h hz)
  exact S_return dX18_put_172 rfl
theorem s_X18_put_108 {g : GG} {d : Nat} (hD : 5 ≤ d) {x0 x1 x2 x3 x4 x5 x6 x7 : Int} {M : MM} {o : AV × MM} {P : (MM) → Prop} (r0 : ∀ r : MM, P r → o = ((9, 0), r)) {z : MM} (h : j_X18_put_108 x0 x1 x2 x3 x4 x5 x6 x7 M = some z) (hz : P z) : Sem g d YX18_put 108 [(1, x0), (1, x1), (0, x2), (0, x3), (0, x4), (0, x5), (0, x6), (1, x7), (9, 0)] [] M o := by
  delta j_X18_put_108 at h
  refine S_aload_n (i := 0) dX18_put_108 rfl rfl ?_
  refine P_gfr FLX18_13 rfl dX18_put_109 h (fun v1 h => ?_)
  refine S_iload dX18_put_112 rfl ?_
  refine S_aload dX18_put_114 rfl ?_
  refine P_sar (t := 9) ⟨by decide, by decide⟩ dX18_put_116 h (fun M1 h => ?_)
  refine S_aload_n (i := 0) dX18_put_117 rfl rfl ?_
  refine S_dup dX18_put_118 (Nat.le_of_ble_eq_true rfl) ?_
  refine P_gfi FLX18_38 rfl dX18_put_119 h (fun v2 h => ?_)
  refine S_iconst dX18_put_122 rfl ?_
  refine S_iadd dX18_put_123 ?_
  refine P_pfi FLX18_38 FPX18_38 rfl dX18_put_124 h (fun M2 h => ?_)
  refine S_aload dX18_put_127 rfl ?_
  refine P_gfr FLX18_26 rfl dX18_put_129 h (fun v3 h => ?_)
  refine S_aload_n (i := 1) dX18_put_132 rfl rfl ?_
  refine P_invVm' [(1, x1)] [] CVX3_set MLX18_52 dX18_put_133 rfl rfl rfl rfl (by omega) h (fun r h => F_X3_set (by omega) h) (fun M3 h => ?_)
  refine S_aload dX18_put_136 rfl ?_
  refine S_iload_n (i := 2) dX18_put_138 rfl rfl ?_
  refine P_pfi FLX18_31 FPX18_31 rfl dX18_put_139 h (fun M4 h => ?_)
  refine S_aload dX18_put_142 rfl ?_
  refine S_iload_n (i := 3) dX18_put_144 rfl rfl ?_
  refine P_pfi FLX18_35 FPX18_35 rfl dX18_put_145 h (fun M5 h => ?_)
  refine S_weak (ls' := [(1, x0), (9, 0), (9, 0), (9, 0), (0, x4), (0, x5), (0, x6), (9, 0), (9, 0)]) ⟨Or.inr rfl, ⟨Or.inl rfl, ⟨Or.inl rfl, ⟨Or.inl rfl, ⟨Or.inr rfl, ⟨Or.inr rfl, ⟨Or.inr rfl, ⟨Or.inl rfl, ⟨Or.inl rfl, trivial⟩⟩⟩⟩⟩⟩⟩⟩⟩ ?_
  exact s_X18_put_148 hD r0 h hz
theorem s_X18_put_79 {g : GG} {d : Nat} (hD : 5 ≤ d) {x0 x1 x2 x3 x4 x5 x6 x7 x8 : Int} {M : MM} {o : AV × MM} {P : ((Int × MM) ⊕ (MM)) → Prop} (c0 : ∀ s : Int × MM, P (.inl s) → Sem g d YX18_put 79 [(1, x0), (1, x1), (0, x2), (0, x3), (0, x4), (0, x5), (0, x6), (1, x7), (0, s.1)] [] s.2 o) (r0 : ∀ r : MM, P (.inr r) → o = ((9, 0), r)) {z : (Int × MM) ⊕ (MM)} (h : b_X18_put_79 x0 x1 x2 x3 x4 x5 x6 x7 x8 M = some z) (hz : P z) : Sem g d YX18_put 79 [(1, x0), (1, x1), (0, x2), (0, x3), (0, x4), (0, x5), (0, x6), (1, x7), (0, x8)] [] M o := by
  delta b_X18_put_79 at h
  refine S_iload dX18_put_79 rfl ?_
  refine S_iload dX18_put_81 rfl ?_
  refine P_icmp_le (tgt := 108) dX18_put_83 rfl h (fun h => ?_) (fun h => ?_)
  · refine S_weak (ls' := [(1, x0), (1, x1), (0, x2), (0, x3), (0, x4), (0, x5), (0, x6), (1, x7), (9, 0)]) ⟨Or.inr rfl, ⟨Or.inr rfl, ⟨Or.inr rfl, ⟨Or.inr rfl, ⟨Or.inr rfl, ⟨Or.inr rfl, ⟨Or.inr rfl, ⟨Or.inr rfl, ⟨Or.inl rfl, trivial⟩⟩⟩⟩⟩⟩⟩⟩⟩ ?_
    obtain ⟨z0, h, hz⟩ := xit_some' (P := fun r => P r) h hz
    exact s_X18_put_108 hD (P := fun r => P (.inr r)) r0 h hz
  · refine S_aload_n (i := 0) dX18_put_86 rfl rfl ?_
    refine P_gfr FLX18_13 rfl dX18_put_87 h (fun v1 h => ?_)
    refine S_iload dX18_put_90 rfl ?_
    refine S_aload_n (i := 0) dX18_put_92 rfl rfl ?_
    refine P_gfr FLX18_13 rfl dX18_put_93 h (fun v2 h => ?_)
    refine S_iload dX18_put_96 rfl ?_
    refine S_iconst dX18_put_98 rfl ?_
    refine S_isub dX18_put_99 ?_
    refine P_lar (t := 9) ⟨by decide, by decide⟩ dX18_put_100 h (fun v3 h => ?_)
    refine P_sar (t := 9) ⟨by decide, by decide⟩ dX18_put_101 h (fun M1 h => ?_)
    refine S_iinc dX18_put_102 rfl rfl rfl ?_
    change Sem g d YX18_put 105 [(1, x0), (1, x1), (0, x2), (0, x3), (0, x4), (0, x5), (0, x6), (1, x7), (0, x8 + (-1))] [] M1 o
    refine S_goto (tgt := 79) dX18_put_105 rfl ?_
    exact c0 (x8 + (-1), M1) (some_P (P := fun r => P r) h hz)
theorem sl_X18_put_79 {g : GG} {d : Nat} (hD : 5 ≤ d) {x0 x1 x2 x3 x4 x5 x6 x7 x8 : Int} {M : MM} {o : AV × MM} {P : (MM) → Prop} (r0 : ∀ r : MM, P r → o = ((9, 0), r)) {z : MM} (h : l_X18_put_79 x0 x1 x2 x3 x4 x5 x6 x7 x8 M = some z) (hz : P z) : Sem g d YX18_put 79 [(1, x0), (1, x1), (0, x2), (0, x3), (0, x4), (0, x5), (0, x6), (1, x7), (0, x8)] [] M o := by
  refine lp_sound (S := fun s : Int × MM => Sem g d YX18_put 79 [(1, x0), (1, x1), (0, x2), (0, x3), (0, x4), (0, x5), (0, x6), (1, x7), (0, s.1)] [] s.2 o) (P := P) ?_ FU (x8, M) z h hz
  intro s x hx hP
  exact s_X18_put_79 hD (P := Sum.elim (fun s : Int × MM => Sem g d YX18_put 79 [(1, x0), (1, x1), (0, x2), (0, x3), (0, x4), (0, x5), (0, x6), (1, x7), (0, s.1)] [] s.2 o) P) (fun s h => h) (fun s h => r0 s h) hx hP
theorem s_X18_put_62 {g : GG} {d : Nat} (hD : 5 ≤ d) {x0 x1 x2 x3 x4 x5 x6 : Int} {M : MM} {o : AV × MM} {P : (MM) → Prop} (r0 : ∀ r : MM, P r → o = ((9, 0), r)) {z : MM} (h : j_X18_put_62 x0 x1 x2 x3 x4 x5 x6 M = some z) (hz : P z) : Sem g d YX18_put 62 [(1, x0), (1, x1), (0, x2), (0, x3), (0, x4), (0, x5), (0, x6), (9, 0), (9, 0)] [] M o := by
  delta j_X18_put_62 at h
  refine S_aload_n (i := 0) dX18_put_62 rfl rfl ?_
  refine P_gfr FLX18_13 rfl dX18_put_63 h (fun v1 h => ?_)
  refine S_aload_n (i := 0) dX18_put_66 rfl rfl ?_
  refine P_gfi FLX18_38 rfl dX18_put_67 h (fun v2 h => ?_)
  refine P_lar (t := 9) ⟨by decide, by decide⟩ dX18_put_70 h (fun v3 h => ?_)
  refine S_astore dX18_put_71 (Nat.le_of_ble_eq_true rfl) rfl rfl ?_
  change Sem g d YX18_put 73 [(1, x0), (1, x1), (0, x2), (0, x3), (0, x4), (0, x5), (0, x6), (1, v3), (9, 0)] [] M o
  refine S_aload_n (i := 0) dX18_put_73 rfl rfl ?_
  refine P_gfi FLX18_38 rfl dX18_put_74 h (fun v4 h => ?_)
  refine S_istore dX18_put_77 (Nat.le_of_ble_eq_true rfl) rfl rfl ?_
  change Sem g d YX18_put 79 [(1, x0), (1, x1), (0, x2), (0, x3), (0, x4), (0, x5), (0, x6), (1, v3), (0, v4)] [] M o
  exact sl_X18_put_79 hD r0 h hz
theorem s_X18_put_34 {g : GG} {d : Nat} (hD : 5 ≤ d) {x0 x1 x2 x3 x4 x5 x6 : Int} {M : MM} {o : AV × MM} {P : (MM) → Prop} (r0 : ∀ r : MM, P r → o = ((9, 0), r)) {z : MM} (h : j_X18_put_34 x0 x1 x2 x3 x4 x5 x6 M = some z) (hz : P z) : Sem g d YX18_put 34 [(1, x0), (1, x1), (0, x2), (0, x3), (0, x4), (0, x5), (0, x6), (9, 0), (9, 0)] [] M o := by
  delta j_X18_put_34 at h
  refine S_aload_n (i := 0) dX18_put_34 rfl rfl ?_
  refine P_gfr FLX18_13 rfl dX18_put_35 h (fun v1 h => ?_)
  refine S_aload_n (i := 0) dX18_put_38 rfl rfl ?_
  refine P_gfi FLX18_38 rfl dX18_put_39 h (fun v2 h => ?_)
  refine P_lar (t := 9) ⟨by decide, by decide⟩ dX18_put_42 h (fun v3 h => ?_)
  refine P_ifnonnull (tgt := 62) dX18_put_43 rfl h (fun h => ?_) (fun h => ?_)
  · exact s_X18_put_62 hD r0 h hz
  · refine S_aload_n (i := 0) dX18_put_46 rfl rfl ?_
    refine P_gfr FLX18_13 rfl dX18_put_47 h (fun v4 h => ?_)
    refine S_aload_n (i := 0) dX18_put_50 rfl rfl ?_
    refine P_gfi FLX18_38 rfl dX18_put_51 h (fun v5 h => ?_)
    refine P_nob NLX18_11 rfl dX18_put_54 h (fun r1 h => ?_)
    refine S_dup dX18_put_57 (Nat.le_of_ble_eq_true rfl) ?_
    refine P_invI' [] [(1, r1.1), (0, v5), (1, v4)] CIX28_init MLX18_51 dX18_put_58 rfl rfl rfl rfl (by omega) h (fun r h => F_X28_init (by omega) h) (fun M1 h => ?_)
    refine P_sar (t := 9) ⟨by decide, by decide⟩ dX18_put_61 h (fun M2 h => ?_)
    exact s_X18_put_62 hD r0 h hz
theorem s_X18_put_0 {g : GG} {d : Nat} (hD : 5 ≤ d) {x0 x1 x2 x3 x4 x5 : Int} {M : MM} {o : AV × MM} {P : (MM) → Prop} (r0 : ∀ r : MM, P r → o = ((9, 0), r)) {z : MM} (h : f_X18_put x0 x1 x2 x3 x4 x5 M = some z) (hz : P z) : Sem g d YX18_put 0 [(1, x0), (1, x1), (0, x2), (0, x3), (0, x4), (0, x5), (9, 0), (9, 0), (9, 0)] [] M o := by
  delta f_X18_put at h
  refine S_aload_n (i := 0) dX18_put_0 rfl rfl ?_
  refine S_aload_n (i := 1) dX18_put_1 rfl rfl ?_
  refine S_iload_n (i := 2) dX18_put_2 rfl rfl ?_
  refine S_iload_n (i := 3) dX18_put_3 rfl rfl ?_
  refine P_invVp 0 [(1, x1), (0, x2), (0, x3)] [] CVX18_place MLX18_44 dX18_put_4 rfl rfl rfl rfl rfl (by omega) h (fun r h => F_X18_place (by omega) h) (fun v1 h => ?_)
  refine S_istore dX18_put_7 (Nat.le_of_ble_eq_true rfl) rfl rfl ?_
  change Sem g d YX18_put 9 [(1, x0), (1, x1), (0, x2), (0, x3), (0, x4), (0, x5), (0, v1), (9, 0), (9, 0)] [] M o
  refine S_iload dX18_put_9 rfl ?_
  refine S_aload_n (i := 0) dX18_put_11 rfl rfl ?_
  refine P_gfi FLX18_38 rfl dX18_put_12 h (fun v2 h => ?_)
  refine P_icmp_eq (tgt := 34) dX18_put_15 rfl h (fun h => ?_) (fun h => ?_)
  · exact s_X18_put_34 hD r0 h hz
  · refine S_aload_n (i := 0) dX18_put_18 rfl rfl ?_
    refine P_gfr FLX18_13 rfl dX18_put_19 h (fun v3 h => ?_)
    refine S_iload dX18_put_22 rfl ?_
    refine P_lar (t := 9) ⟨by decide, by decide⟩ dX18_put_24 h (fun v4 h => ?_)
    refine S_aload_n (i := 1) dX18_put_25 rfl rfl ?_
    refine S_iload_n (i := 2) dX18_put_26 rfl rfl ?_
    refine S_iload_n (i := 3) dX18_put_27 rfl rfl ?_
    refine P_invSp 0 [(1, v4), (1, x1), (0, x2), (0, x3)] [] CSX18_compare MLX18_41 dX18_put_28 rfl rfl rfl rfl rfl (by omega) h (fun r h => F_X18_compare (by omega) h) (fun v5 h => ?_)
    refine P_if_eq (tgt := 148) dX18_put_31 rfl h (fun h => ?_) (fun h => ?_)
    · refine S_weak (ls' := [(1, x0), (9, 0), (9, 0), (9, 0), (0, x4), (0, x5), (0, v1), (9, 0), (9, 0)]) ⟨Or.inr rfl, ⟨Or.inl rfl, ⟨Or.inl rfl, ⟨Or.inl rfl, ⟨Or.inr rfl, ⟨Or.inr rfl, ⟨Or.inr rfl, ⟨Or.inl rfl, ⟨Or.inl rfl, trivial⟩⟩⟩⟩⟩⟩⟩⟩⟩ ?_
      exact s_X18_put_148 hD r0 h hz
    · exact s_X18_put_34 hD r0 h hz
theorem F_X18_put {g : GG} {d : Nat} (hD : 5 ≤ d) {x0 x1 x2 x3 x4 x5 : Int} {M : MM} {r : MM} (h : f_X18_put x0 x1 x2 x3 x4 x5 M = some r) : Sem g d YX18_put 0 (ini YX18_put [(1, x0), (1, x1), (0, x2), (0, x3), (0, x4), (0, x5)]) [] M ((9, 0), r) := by
  change Sem g d YX18_put 0 [(1, x0), (1, x1), (0, x2), (0, x3), (0, x4), (0, x5), (9, 0), (9, 0), (9, 0)] [] M ((9, 0), r)
  exact s_X18_put_0 hD (P := fun x => x = r) (fun q e => by rw [e]) h rfl
/-! PeerSearch$Store.keep(LPeerSearch$Packet;I)Z -/
theorem dX18_keep_0 : decode cX18_keep 0 = .ok (.aload_n 1, 1) := by decide +kernel
theorem dX18_keep_1 : decode cX18_keep 1 = .ok (.bipush 25, 2) := by decide +kernel
theorem dX18_keep_3 : decode cX18_keep 3 = .ok (.aload_n 0, 1) := by decide +kernel
theorem dX18_keep_4 : decode cX18_keep 4 = .ok (.getfield 22, 3) := by decide +kernel
theorem dX18_keep_7 : decode cX18_keep 7 = .ok (.invokevirtual 66, 3) := by decide +kernel
theorem dX18_keep_10 : decode cX18_keep 10 = .ok (.aload_n 1, 1) := by decide +kernel
theorem dX18_keep_11 : decode cX18_keep 11 = .ok (.bipush 45, 2) := by decide +kernel
theorem dX18_keep_13 : decode cX18_keep 13 = .ok (.iconst 1, 1) := by decide +kernel
theorem dX18_keep_14 : decode cX18_keep 14 = .ok (.invokevirtual 62, 3) := by decide +kernel
theorem dX18_keep_17 : decode cX18_keep 17 = .ok (.istore_n 3, 1) := by decide +kernel
theorem dX18_keep_18 : decode cX18_keep 18 = .ok (.iconst 0, 1) := by decide +kernel
theorem dX18_keep_19 : decode cX18_keep 19 = .ok (.istore 4, 2) := by decide +kernel
theorem dX18_keep_21 : decode cX18_keep 21 = .ok (.iconst 0, 1) := by decide +kernel
theorem dX18_keep_22 : decode cX18_keep 22 = .ok (.istore 5, 2) := by decide +kernel
theorem dX18_keep_24 : decode cX18_keep 24 = .ok (.iload 5, 2) := by decide +kernel
theorem dX18_keep_26 : decode cX18_keep 26 = .ok (.iload_n 3, 1) := by decide +kernel
theorem dX18_keep_27 : decode cX18_keep 27 = .ok (.if_icmp .ge 66, 3) := by decide +kernel
theorem dX18_keep_30 : decode cX18_keep 30 = .ok (.iload 4, 2) := by decide +kernel
theorem dX18_keep_32 : decode cX18_keep 32 = .ok (.aload_n 0, 1) := by decide +kernel
theorem dX18_keep_33 : decode cX18_keep 33 = .ok (.aload_n 0, 1) := by decide +kernel
theorem dX18_keep_34 : decode cX18_keep 34 = .ok (.getfield 22, 3) := by decide +kernel
theorem dX18_keep_37 : decode cX18_keep 37 = .ok (.aload_n 1, 1) := by decide +kernel
theorem dX18_keep_38 : decode cX18_keep 38 = .ok (.bipush 46, 2) := by decide +kernel
theorem dX18_keep_40 : decode cX18_keep 40 = .ok (.iconst 3, 1) := by decide +kernel
theorem dX18_keep_41 : decode cX18_keep 41 = .ok (.iload 5, 2) := by decide +kernel
theorem dX18_keep_43 : decode cX18_keep 43 = .ok (.imul, 1) := by decide +kernel
theorem dX18_keep_44 : decode cX18_keep 44 = .ok (.iadd, 1) := by decide +kernel
theorem dX18_keep_45 : decode cX18_keep 45 = .ok (.iconst 1, 1) := by decide +kernel
theorem dX18_keep_46 : decode cX18_keep 46 = .ok (.invokevirtual 62, 3) := by decide +kernel
theorem dX18_keep_49 : decode cX18_keep 49 = .ok (.aload_n 1, 1) := by decide +kernel
theorem dX18_keep_50 : decode cX18_keep 50 = .ok (.bipush 46, 2) := by decide +kernel
theorem dX18_keep_52 : decode cX18_keep 52 = .ok (.iconst 3, 1) := by decide +kernel
theorem dX18_keep_53 : decode cX18_keep 53 = .ok (.iload 5, 2) := by decide +kernel
theorem dX18_keep_55 : decode cX18_keep 55 = .ok (.imul, 1) := by decide +kernel
theorem dX18_keep_56 : decode cX18_keep 56 = .ok (.iadd, 1) := by decide +kernel
theorem dX18_keep_57 : decode cX18_keep 57 = .ok (.iconst 1, 1) := by decide +kernel
theorem dX18_keep_58 : decode cX18_keep 58 = .ok (.iadd, 1) := by decide +kernel
theorem dX18_keep_59 : decode cX18_keep 59 = .ok (.iconst 1, 1) := by decide +kernel
theorem dX18_keep_60 : decode cX18_keep 60 = .ok (.invokevirtual 62, 3) := by decide +kernel
theorem dX18_keep_63 : decode cX18_keep 63 = .ok (.invokevirtual 70, 3) := by decide +kernel
theorem dX18_keep_66 : decode cX18_keep 66 = .ok (.iconst (-1), 1) := by decide +kernel
theorem dX18_keep_67 : decode cX18_keep 67 = .ok (.if_icmp .ne 16, 3) := by decide +kernel
theorem dX18_keep_70 : decode cX18_keep 70 = .ok (.aload_n 1, 1) := by decide +kernel
theorem dX18_keep_71 : decode cX18_keep 71 = .ok (.iload 5, 2) := by decide +kernel
theorem dX18_keep_73 : decode cX18_keep 73 = .ok (.invokestatic 73, 3) := by decide +kernel
theorem dX18_keep_76 : decode cX18_keep 76 = .ok (.ifCond .ne 7, 3) := by decide +kernel
theorem dX18_keep_79 : decode cX18_keep 79 = .ok (.iconst 1, 1) := by decide +kernel
theorem dX18_keep_80 : decode cX18_keep 80 = .ok (.goto 4, 3) := by decide +kernel
theorem dX18_keep_83 : decode cX18_keep 83 = .ok (.iconst 0, 1) := by decide +kernel
theorem dX18_keep_84 : decode cX18_keep 84 = .ok (.iadd, 1) := by decide +kernel
theorem dX18_keep_85 : decode cX18_keep 85 = .ok (.istore 4, 2) := by decide +kernel
theorem dX18_keep_87 : decode cX18_keep 87 = .ok (.iinc 5 1, 3) := by decide +kernel
theorem dX18_keep_90 : decode cX18_keep 90 = .ok (.goto (-66), 3) := by decide +kernel
theorem dX18_keep_93 : decode cX18_keep 93 = .ok (.aload_n 0, 1) := by decide +kernel
theorem dX18_keep_94 : decode cX18_keep 94 = .ok (.getfield 38, 3) := by decide +kernel
theorem dX18_keep_97 : decode cX18_keep 97 = .ok (.iload 4, 2) := by decide +kernel
theorem dX18_keep_99 : decode cX18_keep 99 = .ok (.iadd, 1) := by decide +kernel
theorem dX18_keep_100 : decode cX18_keep 100 = .ok (.sipush 200, 3) := by decide +kernel
theorem dX18_keep_103 : decode cX18_keep 103 = .ok (.if_icmp .le 5, 3) := by decide +kernel
theorem dX18_keep_106 : decode cX18_keep 106 = .ok (.iconst 0, 1) := by decide +kernel
theorem dX18_keep_107 : decode cX18_keep 107 = .ok (.ireturn, 1) := by decide +kernel
theorem dX18_keep_108 : decode cX18_keep 108 = .ok (.iconst 0, 1) := by decide +kernel
theorem dX18_keep_109 : decode cX18_keep 109 = .ok (.istore 5, 2) := by decide +kernel
theorem dX18_keep_111 : decode cX18_keep 111 = .ok (.iload 5, 2) := by decide +kernel
theorem dX18_keep_113 : decode cX18_keep 113 = .ok (.iload_n 3, 1) := by decide +kernel
theorem dX18_keep_114 : decode cX18_keep 114 = .ok (.if_icmp .ge 58, 3) := by decide +kernel
theorem dX18_keep_117 : decode cX18_keep 117 = .ok (.aload_n 0, 1) := by decide +kernel
theorem dX18_keep_118 : decode cX18_keep 118 = .ok (.aload_n 0, 1) := by decide +kernel
theorem dX18_keep_119 : decode cX18_keep 119 = .ok (.getfield 22, 3) := by decide +kernel
theorem dX18_keep_122 : decode cX18_keep 122 = .ok (.aload_n 1, 1) := by decide +kernel
theorem dX18_keep_123 : decode cX18_keep 123 = .ok (.bipush 46, 2) := by decide +kernel
theorem dX18_keep_125 : decode cX18_keep 125 = .ok (.iconst 3, 1) := by decide +kernel
theorem dX18_keep_126 : decode cX18_keep 126 = .ok (.iload 5, 2) := by decide +kernel
theorem dX18_keep_128 : decode cX18_keep 128 = .ok (.imul, 1) := by decide +kernel
theorem dX18_keep_129 : decode cX18_keep 129 = .ok (.iadd, 1) := by decide +kernel
theorem dX18_keep_130 : decode cX18_keep 130 = .ok (.iconst 1, 1) := by decide +kernel
theorem dX18_keep_131 : decode cX18_keep 131 = .ok (.invokevirtual 62, 3) := by decide +kernel
theorem dX18_keep_134 : decode cX18_keep 134 = .ok (.aload_n 1, 1) := by decide +kernel
theorem dX18_keep_135 : decode cX18_keep 135 = .ok (.bipush 46, 2) := by decide +kernel
theorem dX18_keep_137 : decode cX18_keep 137 = .ok (.iconst 3, 1) := by decide +kernel
theorem dX18_keep_138 : decode cX18_keep 138 = .ok (.iload 5, 2) := by decide +kernel
theorem dX18_keep_140 : decode cX18_keep 140 = .ok (.imul, 1) := by decide +kernel
theorem dX18_keep_141 : decode cX18_keep 141 = .ok (.iadd, 1) := by decide +kernel
theorem dX18_keep_142 : decode cX18_keep 142 = .ok (.iconst 1, 1) := by decide +kernel
theorem dX18_keep_143 : decode cX18_keep 143 = .ok (.iadd, 1) := by decide +kernel
theorem dX18_keep_144 : decode cX18_keep 144 = .ok (.iconst 1, 1) := by decide +kernel
theorem dX18_keep_145 : decode cX18_keep 145 = .ok (.invokevirtual 62, 3) := by decide +kernel
theorem dX18_keep_148 : decode cX18_keep 148 = .ok (.aload_n 1, 1) := by decide +kernel
theorem dX18_keep_149 : decode cX18_keep 149 = .ok (.bipush 46, 2) := by decide +kernel
theorem dX18_keep_151 : decode cX18_keep 151 = .ok (.iconst 3, 1) := by decide +kernel
theorem dX18_keep_152 : decode cX18_keep 152 = .ok (.iload 5, 2) := by decide +kernel
theorem dX18_keep_154 : decode cX18_keep 154 = .ok (.imul, 1) := by decide +kernel
theorem dX18_keep_155 : decode cX18_keep 155 = .ok (.iadd, 1) := by decide +kernel
theorem dX18_keep_156 : decode cX18_keep 156 = .ok (.iconst 2, 1) := by decide +kernel
theorem dX18_keep_157 : decode cX18_keep 157 = .ok (.iadd, 1) := by decide +kernel
theorem dX18_keep_158 : decode cX18_keep 158 = .ok (.iconst 1, 1) := by decide +kernel
theorem dX18_keep_159 : decode cX18_keep 159 = .ok (.invokevirtual 62, 3) := by decide +kernel
theorem dX18_keep_162 : decode cX18_keep 162 = .ok (.iload_n 2, 1) := by decide +kernel
theorem dX18_keep_163 : decode cX18_keep 163 = .ok (.invokevirtual 77, 3) := by decide +kernel
theorem dX18_keep_166 : decode cX18_keep 166 = .ok (.iinc 5 1, 3) := by decide +kernel
theorem dX18_keep_169 : decode cX18_keep 169 = .ok (.goto (-58), 3) := by decide +kernel
theorem dX18_keep_172 : decode cX18_keep 172 = .ok (.iconst 1, 1) := by decide +kernel
theorem dX18_keep_173 : decode cX18_keep 173 = .ok (.ireturn, 1) := by decide +kernel
def b_X18_keep_111 (x0 x1 x2 x3 x5 : Int) (M : MM) : Option ((Int × MM) ⊕ (Int × MM)) :=
  if w32 x5 < w32 x3 then
    (gfr 18 2 x0 M).bind fun v1 =>
    ck 4 x1 M <| (f_X4_get x1 (46 + (3 * x5)) 1 M).bind fun v2 =>
    ck 4 x1 M <| (f_X4_get x1 ((46 + (3 * x5)) + 1) 1 M).bind fun v3 =>
    ck 4 x1 M <| (f_X4_get x1 ((46 + (3 * x5)) + 2) 1 M).bind fun v4 =>
    ck 18 x0 M <| (f_X18_put x0 v1 v2 v3 v4 x2 M).bind fun M1 =>
    cnt (x5 + 1, M1)
  else
    xit (some (1, M))
def l_X18_keep_111 (x0 x1 x2 x3 x5 : Int) (M : MM) : Option (Int × MM) := lpN (fun s : Int × MM => b_X18_keep_111 x0 x1 x2 x3 s.1 s.2) FU (x5, M)
def j_X18_keep_93 (x0 x1 x2 x3 x4 : Int) (M : MM) : Option (Int × MM) :=
  (gfi 18 1 x0 M).bind fun v1 =>
  if w32 200 < w32 (v1 + x4) then
    some (0, M)
  else
    l_X18_keep_111 x0 x1 x2 x3 0 M
def j_X18_keep_84 (x0 x1 x2 x3 x5 y0 y1 : Int) (M : MM) : Option ((Int × Int) ⊕ (Int × MM)) :=
  cnt (y0 + y1, x5 + 1)
def j_X18_keep_83 (x0 x1 x2 x3 x5 y0 : Int) (M : MM) : Option ((Int × Int) ⊕ (Int × MM)) :=
  j_X18_keep_84 x0 x1 x2 x3 x5 y0 0 M
def b_X18_keep_24 (x0 x1 x2 x3 x4 x5 : Int) (M : MM) : Option ((Int × Int) ⊕ (Int × MM)) :=
  if w32 x5 < w32 x3 then
    (gfr 18 2 x0 M).bind fun v1 =>
    ck 4 x1 M <| (f_X4_get x1 (46 + (3 * x5)) 1 M).bind fun v2 =>
    ck 4 x1 M <| (f_X4_get x1 ((46 + (3 * x5)) + 1) 1 M).bind fun v3 =>
    ck 18 x0 M <| (f_X18_find x0 v1 v2 v3 M).bind fun v4 =>
    if w32 v4 = w32 (-1) then
      (f_X18_isEarlier x1 x5 M).bind fun v5 =>
      if w32 v5 = 0 then
        j_X18_keep_84 x0 x1 x2 x3 x5 x4 1 M
      else
        j_X18_keep_83 x0 x1 x2 x3 x5 x4 M
    else
      j_X18_keep_83 x0 x1 x2 x3 x5 x4 M
  else
    xit (j_X18_keep_93 x0 x1 x2 x3 x4 M)
def l_X18_keep_24 (x0 x1 x2 x3 x4 x5 : Int) (M : MM) : Option (Int × MM) := lpN (fun s : Int × Int => b_X18_keep_24 x0 x1 x2 x3 s.1 s.2 M) FU (x4, x5)
def f_X18_keep (x0 x1 x2 : Int) (M : MM) : Option (Int × MM) :=
  (gfr 18 2 x0 M).bind fun v1 =>
  ck 4 x1 M <| (f_X4_getKey x1 25 v1 M).bind fun M1 =>
  ck 4 x1 M1 <| (f_X4_get x1 45 1 M1).bind fun v2 =>
  l_X18_keep_24 x0 x1 x2 v2 0 0 M1
theorem s_X18_keep_111 {g : GG} {d : Nat} (hD : 6 ≤ d) {x0 x1 x2 x3 x5 : Int} {M : MM} {o : AV × MM} {P : ((Int × MM) ⊕ (Int × MM)) → Prop} (c0 : ∀ s : Int × MM, P (.inl s) → Sem g d YX18_keep 111 [(1, x0), (1, x1), (0, x2), (0, x3), (9, 0), (0, s.1)] [] s.2 o) (r0 : ∀ r : Int × MM, P (.inr r) → o = ((0, r.1), r.2)) {z : (Int × MM) ⊕ (Int × MM)} (h : b_X18_keep_111 x0 x1 x2 x3 x5 M = some z) (hz : P z) : Sem g d YX18_keep 111 [(1, x0), (1, x1), (0, x2), (0, x3), (9, 0), (0, x5)] [] M o := by
  delta b_X18_keep_111 at h
  refine S_iload dX18_keep_111 rfl ?_
  refine S_iload_n (i := 3) dX18_keep_113 rfl rfl ?_
  refine P_icmp_ge (tgt := 172) dX18_keep_114 rfl h (fun h => ?_) (fun h => ?_)
  · obtain ⟨z0, h, hz⟩ := xit_some' (P := fun r => P r) h hz
    refine S_iconst dX18_keep_172 rfl ?_
    obtain rfl := r0 _ (some_P (P := fun r => P (.inr r)) h hz)
    exact P_ret dX18_keep_173 rfl (Or.inr ⟨rfl, Or.inr rfl⟩)
  · refine S_aload_n (i := 0) dX18_keep_117 rfl rfl ?_
    refine S_aload_n (i := 0) dX18_keep_118 rfl rfl ?_
    refine P_gfr FLX18_22 rfl dX18_keep_119 h (fun v1 h => ?_)
    refine S_aload_n (i := 1) dX18_keep_122 rfl rfl ?_
    refine S_bipush (z := 46) dX18_keep_123 rfl ?_
    refine S_iconst dX18_keep_125 rfl ?_
    refine S_iload dX18_keep_126 rfl ?_
    refine S_imul dX18_keep_128 ?_
    refine S_iadd dX18_keep_129 ?_
    refine S_iconst dX18_keep_130 rfl ?_
    refine P_invVp 0 [(0, 46 + (3 * x5)), (0, 1)] [(1, v1), (1, x0)] CVX4_get MLX18_62 dX18_keep_131 rfl rfl rfl rfl rfl (by omega) h (fun r h => F_X4_get (by omega) h) (fun v2 h => ?_)
    refine S_aload_n (i := 1) dX18_keep_134 rfl rfl ?_
    refine S_bipush (z := 46) dX18_keep_135 rfl ?_
    refine S_iconst dX18_keep_137 rfl ?_
    refine S_iload dX18_keep_138 rfl ?_
    refine S_imul dX18_keep_140 ?_
    refine S_iadd dX18_keep_141 ?_
    refine S_iconst dX18_keep_142 rfl ?_
    refine S_iadd dX18_keep_143 ?_
    refine S_iconst dX18_keep_144 rfl ?_
    refine P_invVp 0 [(0, (46 + (3 * x5)) + 1), (0, 1)] [(0, v2), (1, v1), (1, x0)] CVX4_get MLX18_62 dX18_keep_145 rfl rfl rfl rfl rfl (by omega) h (fun r h => F_X4_get (by omega) h) (fun v3 h => ?_)
    refine S_aload_n (i := 1) dX18_keep_148 rfl rfl ?_
    refine S_bipush (z := 46) dX18_keep_149 rfl ?_
    refine S_iconst dX18_keep_151 rfl ?_
    refine S_iload dX18_keep_152 rfl ?_
    refine S_imul dX18_keep_154 ?_
    refine S_iadd dX18_keep_155 ?_
    refine S_iconst dX18_keep_156 rfl ?_
    refine S_iadd dX18_keep_157 ?_
    refine S_iconst dX18_keep_158 rfl ?_
    refine P_invVp 0 [(0, (46 + (3 * x5)) + 2), (0, 1)] [(0, v3), (0, v2), (1, v1), (1, x0)] CVX4_get MLX18_62 dX18_keep_159 rfl rfl rfl rfl rfl (by omega) h (fun r h => F_X4_get (by omega) h) (fun v4 h => ?_)
    refine S_iload_n (i := 2) dX18_keep_162 rfl rfl ?_
    refine P_invVm' [(1, v1), (0, v2), (0, v3), (0, v4), (0, x2)] [] CVX18_put MLX18_77 dX18_keep_163 rfl rfl rfl rfl (by omega) h (fun r h => F_X18_put (by omega) h) (fun M1 h => ?_)
    refine S_iinc dX18_keep_166 rfl rfl rfl ?_
    change Sem g d YX18_keep 169 [(1, x0), (1, x1), (0, x2), (0, x3), (9, 0), (0, x5 + 1)] [] M1 o
    refine S_goto (tgt := 111) dX18_keep_169 rfl ?_
    exact c0 (x5 + 1, M1) (some_P (P := fun r => P r) h hz)
theorem sl_X18_keep_111 {g : GG} {d : Nat} (hD : 6 ≤ d) {x0 x1 x2 x3 x5 : Int} {M : MM} {o : AV × MM} {P : (Int × MM) → Prop} (r0 : ∀ r : Int × MM, P r → o = ((0, r.1), r.2)) {z : Int × MM} (h : l_X18_keep_111 x0 x1 x2 x3 x5 M = some z) (hz : P z) : Sem g d YX18_keep 111 [(1, x0), (1, x1), (0, x2), (0, x3), (9, 0), (0, x5)] [] M o := by
  refine lp_sound (S := fun s : Int × MM => Sem g d YX18_keep 111 [(1, x0), (1, x1), (0, x2), (0, x3), (9, 0), (0, s.1)] [] s.2 o) (P := P) ?_ FU (x5, M) z h hz
  intro s x hx hP
  exact s_X18_keep_111 hD (P := Sum.elim (fun s : Int × MM => Sem g d YX18_keep 111 [(1, x0), (1, x1), (0, x2), (0, x3), (9, 0), (0, s.1)] [] s.2 o) P) (fun s h => h) (fun s h => r0 s h) hx hP
theorem s_X18_keep_93 {g : GG} {d : Nat} (hD : 6 ≤ d) {x0 x1 x2 x3 x4 : Int} {M : MM} {o : AV × MM} {P : (Int × MM) → Prop} (r0 : ∀ r : Int × MM, P r → o = ((0, r.1), r.2)) {z : Int × MM} (h : j_X18_keep_93 x0 x1 x2 x3 x4 M = some z) (hz : P z) : Sem g d YX18_keep 93 [(1, x0), (1, x1), (0, x2), (0, x3), (0, x4), (9, 0)] [] M o := by
  delta j_X18_keep_93 at h
  refine S_aload_n (i := 0) dX18_keep_93 rfl rfl ?_
  refine P_gfi FLX18_38 rfl dX18_keep_94 h (fun v1 h => ?_)
  refine S_iload dX18_keep_97 rfl ?_
  refine S_iadd dX18_keep_99 ?_
  refine S_sipush (z := 200) dX18_keep_100 rfl ?_
  refine P_icmp_le (tgt := 108) dX18_keep_103 rfl h (fun h => ?_) (fun h => ?_)
  · refine S_iconst dX18_keep_108 rfl ?_
    refine S_istore dX18_keep_109 (Nat.le_of_ble_eq_true rfl) rfl rfl ?_
    change Sem g d YX18_keep 111 [(1, x0), (1, x1), (0, x2), (0, x3), (0, x4), (0, 0)] [] M o
    refine S_weak (ls' := [(1, x0), (1, x1), (0, x2), (0, x3), (9, 0), (0, 0)]) ⟨Or.inr rfl, ⟨Or.inr rfl, ⟨Or.inr rfl, ⟨Or.inr rfl, ⟨Or.inl rfl, ⟨Or.inr rfl, trivial⟩⟩⟩⟩⟩⟩ ?_
    exact sl_X18_keep_111 hD r0 h hz
  · refine S_iconst dX18_keep_106 rfl ?_
    obtain rfl := r0 _ (some_P (P := fun r => P r) h hz)
    exact P_ret dX18_keep_107 rfl (Or.inr ⟨rfl, Or.inl rfl⟩)
theorem s_X18_keep_84 {g : GG} {d : Nat} (hD : 6 ≤ d) {x0 x1 x2 x3 x5 y0 y1 : Int} {M : MM} {o : AV × MM} {P : ((Int × Int) ⊕ (Int × MM)) → Prop} (c0 : ∀ s : Int × Int, P (.inl s) → Sem g d YX18_keep 24 [(1, x0), (1, x1), (0, x2), (0, x3), (0, s.1), (0, s.2)] [] M o) (r0 : ∀ r : Int × MM, P (.inr r) → o = ((0, r.1), r.2)) {z : (Int × Int) ⊕ (Int × MM)} (h : j_X18_keep_84 x0 x1 x2 x3 x5 y0 y1 M = some z) (hz : P z) : Sem g d YX18_keep 84 [(1, x0), (1, x1), (0, x2), (0, x3), (9, 0), (0, x5)] [(0, y1), (0, y0)] M o := by
  delta j_X18_keep_84 at h
  refine S_iadd dX18_keep_84 ?_
  refine S_istore dX18_keep_85 (Nat.le_of_ble_eq_true rfl) rfl rfl ?_
  change Sem g d YX18_keep 87 [(1, x0), (1, x1), (0, x2), (0, x3), (0, y0 + y1), (0, x5)] [] M o
  refine S_iinc dX18_keep_87 rfl rfl rfl ?_
  change Sem g d YX18_keep 90 [(1, x0), (1, x1), (0, x2), (0, x3), (0, y0 + y1), (0, x5 + 1)] [] M o
  refine S_goto (tgt := 24) dX18_keep_90 rfl ?_
  exact c0 (y0 + y1, x5 + 1) (some_P (P := fun r => P r) h hz)
theorem s_X18_keep_83 {g : GG} {d : Nat} (hD : 6 ≤ d) {x0 x1 x2 x3 x5 y0 : Int} {M : MM} {o : AV × MM} {P : ((Int × Int) ⊕ (Int × MM)) → Prop} (c0 : ∀ s : Int × Int, P (.inl s) → Sem g d YX18_keep 24 [(1, x0), (1, x1), (0, x2), (0, x3), (0, s.1), (0, s.2)] [] M o) (r0 : ∀ r : Int × MM, P (.inr r) → o = ((0, r.1), r.2)) {z : (Int × Int) ⊕ (Int × MM)} (h : j_X18_keep_83 x0 x1 x2 x3 x5 y0 M = some z) (hz : P z) : Sem g d YX18_keep 83 [(1, x0), (1, x1), (0, x2), (0, x3), (9, 0), (0, x5)] [(0, y0)] M o := by
  delta j_X18_keep_83 at h
  refine S_iconst dX18_keep_83 rfl ?_
  exact s_X18_keep_84 hD c0 r0 h hz
theorem s_X18_keep_24 {g : GG} {d : Nat} (hD : 6 ≤ d) {x0 x1 x2 x3 x4 x5 : Int} {M : MM} {o : AV × MM} {P : ((Int × Int) ⊕ (Int × MM)) → Prop} (c0 : ∀ s : Int × Int, P (.inl s) → Sem g d YX18_keep 24 [(1, x0), (1, x1), (0, x2), (0, x3), (0, s.1), (0, s.2)] [] M o) (r0 : ∀ r : Int × MM, P (.inr r) → o = ((0, r.1), r.2)) {z : (Int × Int) ⊕ (Int × MM)} (h : b_X18_keep_24 x0 x1 x2 x3 x4 x5 M = some z) (hz : P z) : Sem g d YX18_keep 24 [(1, x0), (1, x1), (0, x2), (0, x3), (0, x4), (0, x5)] [] M o := by
  delta b_X18_keep_24 at h
  refine S_iload dX18_keep_24 rfl ?_
  refine S_iload_n (i := 3) dX18_keep_26 rfl rfl ?_
  refine P_icmp_ge (tgt := 93) dX18_keep_27 rfl h (fun h => ?_) (fun h => ?_)
  · refine S_weak (ls' := [(1, x0), (1, x1), (0, x2), (0, x3), (0, x4), (9, 0)]) ⟨Or.inr rfl, ⟨Or.inr rfl, ⟨Or.inr rfl, ⟨Or.inr rfl, ⟨Or.inr rfl, ⟨Or.inl rfl, trivial⟩⟩⟩⟩⟩⟩ ?_
    obtain ⟨z0, h, hz⟩ := xit_some' (P := fun r => P r) h hz
    exact s_X18_keep_93 hD (P := fun r => P (.inr r)) r0 h hz
  · refine S_iload dX18_keep_30 rfl ?_
    refine S_aload_n (i := 0) dX18_keep_32 rfl rfl ?_
    refine S_aload_n (i := 0) dX18_keep_33 rfl rfl ?_
    refine P_gfr FLX18_22 rfl dX18_keep_34 h (fun v1 h => ?_)
    refine S_aload_n (i := 1) dX18_keep_37 rfl rfl ?_
    refine S_bipush (z := 46) dX18_keep_38 rfl ?_
    refine S_iconst dX18_keep_40 rfl ?_
    refine S_iload dX18_keep_41 rfl ?_
    refine S_imul dX18_keep_43 ?_
    refine S_iadd dX18_keep_44 ?_
    refine S_iconst dX18_keep_45 rfl ?_
    refine P_invVp 0 [(0, 46 + (3 * x5)), (0, 1)] [(1, v1), (1, x0), (0, x4)] CVX4_get MLX18_62 dX18_keep_46 rfl rfl rfl rfl rfl (by omega) h (fun r h => F_X4_get (by omega) h) (fun v2 h => ?_)
    refine S_aload_n (i := 1) dX18_keep_49 rfl rfl ?_
    refine S_bipush (z := 46) dX18_keep_50 rfl ?_
    refine S_iconst dX18_keep_52 rfl ?_
    refine S_iload dX18_keep_53 rfl ?_
    refine S_imul dX18_keep_55 ?_
    refine S_iadd dX18_keep_56 ?_
    refine S_iconst dX18_keep_57 rfl ?_
    refine S_iadd dX18_keep_58 ?_
    refine S_iconst dX18_keep_59 rfl ?_
    refine P_invVp 0 [(0, (46 + (3 * x5)) + 1), (0, 1)] [(0, v2), (1, v1), (1, x0), (0, x4)] CVX4_get MLX18_62 dX18_keep_60 rfl rfl rfl rfl rfl (by omega) h (fun r h => F_X4_get (by omega) h) (fun v3 h => ?_)
    refine P_invVp 0 [(1, v1), (0, v2), (0, v3)] [(0, x4)] CVX18_find MLX18_70 dX18_keep_63 rfl rfl rfl rfl rfl (by omega) h (fun r h => F_X18_find (by omega) h) (fun v4 h => ?_)
    refine S_iconst dX18_keep_66 rfl ?_
    refine P_icmp_ne (tgt := 83) dX18_keep_67 rfl h (fun h => ?_) (fun h => ?_)
    · refine S_weak (ls' := [(1, x0), (1, x1), (0, x2), (0, x3), (9, 0), (0, x5)]) ⟨Or.inr rfl, ⟨Or.inr rfl, ⟨Or.inr rfl, ⟨Or.inr rfl, ⟨Or.inl rfl, ⟨Or.inr rfl, trivial⟩⟩⟩⟩⟩⟩ ?_
      exact s_X18_keep_83 hD c0 r0 h hz
    · refine S_aload_n (i := 1) dX18_keep_70 rfl rfl ?_
      refine S_iload dX18_keep_71 rfl ?_
      refine P_invSp 0 [(1, x1), (0, x5)] [(0, x4)] CSX18_isEarlier MLX18_73 dX18_keep_73 rfl rfl rfl rfl rfl (by omega) h (fun r h => F_X18_isEarlier (by omega) h) (fun v5 h => ?_)
      refine P_if_ne (tgt := 83) dX18_keep_76 rfl h (fun h => ?_) (fun h => ?_)
      · refine S_weak (ls' := [(1, x0), (1, x1), (0, x2), (0, x3), (9, 0), (0, x5)]) ⟨Or.inr rfl, ⟨Or.inr rfl, ⟨Or.inr rfl, ⟨Or.inr rfl, ⟨Or.inl rfl, ⟨Or.inr rfl, trivial⟩⟩⟩⟩⟩⟩ ?_
        exact s_X18_keep_83 hD c0 r0 h hz
      · refine S_iconst dX18_keep_79 rfl ?_
        refine S_goto (tgt := 84) dX18_keep_80 rfl ?_
        refine S_weak (ls' := [(1, x0), (1, x1), (0, x2), (0, x3), (9, 0), (0, x5)]) ⟨Or.inr rfl, ⟨Or.inr rfl, ⟨Or.inr rfl, ⟨Or.inr rfl, ⟨Or.inl rfl, ⟨Or.inr rfl, trivial⟩⟩⟩⟩⟩⟩ ?_
        exact s_X18_keep_84 hD c0 r0 h hz
theorem sl_X18_keep_24 {g : GG} {d : Nat} (hD : 6 ≤ d) {x0 x1 x2 x3 x4 x5 : Int} {M : MM} {o : AV × MM} {P : (Int × MM) → Prop} (r0 : ∀ r : Int × MM, P r → o = ((0, r.1), r.2)) {z : Int × MM} (h : l_X18_keep_24 x0 x1 x2 x3 x4 x5 M = some z) (hz : P z) : Sem g d YX18_keep 24 [(1, x0), (1, x1), (0, x2), (0, x3), (0, x4), (0, x5)] [] M o := by
  refine lp_sound (S := fun s : Int × Int => Sem g d YX18_keep 24 [(1, x0), (1, x1), (0, x2), (0, x3), (0, s.1), (0, s.2)] [] M o) (P := P) ?_ FU (x4, x5) z h hz
  intro s x hx hP
  exact s_X18_keep_24 hD (P := Sum.elim (fun s : Int × Int => Sem g d YX18_keep 24 [(1, x0), (1, x1), (0, x2), (0, x3), (0, s.1), (0, s.2)] [] M o) P) (fun s h => h) (fun s h => r0 s h) hx hP
theorem s_X18_keep_0 {g : GG} {d : Nat} (hD : 6 ≤ d) {x0 x1 x2 : Int} {M : MM} {o : AV × MM} {P : (Int × MM) → Prop} (r0 : ∀ r : Int × MM, P r → o = ((0, r.1), r.2)) {z : Int × MM} (h : f_X18_keep x0 x1 x2 M = some z) (hz : P z) : Sem g d YX18_keep 0 [(1, x0), (1, x1), (0, x2), (9, 0), (9, 0), (9, 0)] [] M o := by
  delta f_X18_keep at h
  refine S_aload_n (i := 1) dX18_keep_0 rfl rfl ?_
  refine S_bipush (z := 25) dX18_keep_1 rfl ?_
  refine S_aload_n (i := 0) dX18_keep_3 rfl rfl ?_
  refine P_gfr FLX18_22 rfl dX18_keep_4 h (fun v1 h => ?_)
  refine P_invVm' [(0, 25), (1, v1)] [] CVX4_getKey MLX18_66 dX18_keep_7 rfl rfl rfl rfl (by omega) h (fun r h => F_X4_getKey (by omega) h) (fun M1 h => ?_)
  refine S_aload_n (i := 1) dX18_keep_10 rfl rfl ?_
  refine S_bipush (z := 45) dX18_keep_11 rfl ?_
  refine S_iconst dX18_keep_13 rfl ?_
  refine P_invVp 0 [(0, 45), (0, 1)] [] CVX4_get MLX18_62 dX18_keep_14 rfl rfl rfl rfl rfl (by omega) h (fun r h => F_X4_get (by omega) h) (fun v2 h => ?_)
  refine S_istore_n (i := 3) dX18_keep_17 rfl (Nat.le_of_ble_eq_true rfl) rfl rfl ?_
  change Sem g d YX18_keep 18 [(1, x0), (1, x1), (0, x2), (0, v2), (9, 0), (9, 0)] [] M1 o
  refine S_iconst dX18_keep_18 rfl ?_
  refine S_istore dX18_keep_19 (Nat.le_of_ble_eq_true rfl) rfl rfl ?_
  change Sem g d YX18_keep 21 [(1, x0), (1, x1), (0, x2), (0, v2), (0, 0), (9, 0)] [] M1 o
  refine S_iconst dX18_keep_21 rfl ?_
  refine S_istore dX18_keep_22 (Nat.le_of_ble_eq_true rfl) rfl rfl ?_
  change Sem g d YX18_keep 24 [(1, x0), (1, x1), (0, x2), (0, v2), (0, 0), (0, 0)] [] M1 o
  exact sl_X18_keep_24 hD r0 h hz
theorem F_X18_keep {g : GG} {d : Nat} (hD : 6 ≤ d) {x0 x1 x2 : Int} {M : MM} {r : Int × MM} (h : f_X18_keep x0 x1 x2 M = some r) : Sem g d YX18_keep 0 (ini YX18_keep [(1, x0), (1, x1), (0, x2)]) [] M ((0, r.1), r.2) := by
  change Sem g d YX18_keep 0 [(1, x0), (1, x1), (0, x2), (9, 0), (9, 0), (9, 0)] [] M ((0, r.1), r.2)
  exact s_X18_keep_0 hD (P := fun x => x = r) (fun q e => by rw [e]) h rfl
/-! PeerSearch$Peer.answers(LPeerSearch$Packet;LPeerSearch$Key;)Z -/
theorem dX17_answers_0 : decode cX17_answers 0 = .ok (.aload_n 0, 1) := by decide +kernel
theorem dX17_answers_1 : decode cX17_answers 1 = .ok (.getfield 42, 3) := by decide +kernel
theorem dX17_answers_4 : decode cX17_answers 4 = .ok (.getfield 247, 3) := by decide +kernel
theorem dX17_answers_7 : decode cX17_answers 7 = .ok (.astore_n 3, 1) := by decide +kernel
theorem dX17_answers_8 : decode cX17_answers 8 = .ok (.aload_n 3, 1) := by decide +kernel
theorem dX17_answers_9 : decode cX17_answers 9 = .ok (.aload_n 1, 1) := by decide +kernel
theorem dX17_answers_10 : decode cX17_answers 10 = .ok (.invokevirtual 146, 3) := by decide +kernel
theorem dX17_answers_13 : decode cX17_answers 13 = .ok (.iconst 1, 1) := by decide +kernel
theorem dX17_answers_14 : decode cX17_answers 14 = .ok (.iadd, 1) := by decide +kernel
theorem dX17_answers_15 : decode cX17_answers 15 = .ok (.aload_n 1, 1) := by decide +kernel
theorem dX17_answers_16 : decode cX17_answers 16 = .ok (.invokevirtual 250, 3) := by decide +kernel
theorem dX17_answers_19 : decode cX17_answers 19 = .ok (.aload_n 0, 1) := by decide +kernel
theorem dX17_answers_20 : decode cX17_answers 20 = .ok (.getfield 12, 3) := by decide +kernel
theorem dX17_answers_23 : decode cX17_answers 23 = .ok (.invokevirtual 123, 3) := by decide +kernel
theorem dX17_answers_26 : decode cX17_answers 26 = .ok (.aload_n 1, 1) := by decide +kernel
theorem dX17_answers_27 : decode cX17_answers 27 = .ok (.bipush 25, 2) := by decide +kernel
theorem dX17_answers_29 : decode cX17_answers 29 = .ok (.aload_n 0, 1) := by decide +kernel
theorem dX17_answers_30 : decode cX17_answers 30 = .ok (.getfield 42, 3) := by decide +kernel
theorem dX17_answers_33 : decode cX17_answers 33 = .ok (.getfield 273, 3) := by decide +kernel
theorem dX17_answers_36 : decode cX17_answers 36 = .ok (.invokevirtual 225, 3) := by decide +kernel
theorem dX17_answers_39 : decode cX17_answers 39 = .ok (.aload_n 1, 1) := by decide +kernel
theorem dX17_answers_40 : decode cX17_answers 40 = .ok (.invokevirtual 146, 3) := by decide +kernel
theorem dX17_answers_43 : decode cX17_answers 43 = .ok (.tableswitch 198 3 13 #[57, 198, 72, 198, 106, 198, 154, 198, 168, 198, 183], 57) := by decide +kernel
theorem dX17_answers_100 : decode cX17_answers 100 = .ok (.aload_n 0, 1) := by decide +kernel
theorem dX17_answers_101 : decode cX17_answers 101 = .ok (.aload_n 3, 1) := by decide +kernel
theorem dX17_answers_102 : decode cX17_answers 102 = .ok (.aload_n 0, 1) := by decide +kernel
theorem dX17_answers_103 : decode cX17_answers 103 = .ok (.getfield 42, 3) := by decide +kernel
theorem dX17_answers_106 : decode cX17_answers 106 = .ok (.getfield 273, 3) := by decide +kernel
theorem dX17_answers_109 : decode cX17_answers 109 = .ok (.aload_n 2, 1) := by decide +kernel
theorem dX17_answers_110 : decode cX17_answers 110 = .ok (.invokevirtual 276, 3) := by decide +kernel
theorem dX17_answers_113 : decode cX17_answers 113 = .ok (.iconst 1, 1) := by decide +kernel
theorem dX17_answers_114 : decode cX17_answers 114 = .ok (.ireturn, 1) := by decide +kernel
theorem dX17_answers_115 : decode cX17_answers 115 = .ok (.aload_n 3, 1) := by decide +kernel
theorem dX17_answers_116 : decode cX17_answers 116 = .ok (.aload_n 0, 1) := by decide +kernel
theorem dX17_answers_117 : decode cX17_answers 117 = .ok (.getfield 21, 3) := by decide +kernel
theorem dX17_answers_120 : decode cX17_answers 120 = .ok (.aload_n 0, 1) := by decide +kernel
theorem dX17_answers_121 : decode cX17_answers 121 = .ok (.getfield 42, 3) := by decide +kernel
theorem dX17_answers_124 : decode cX17_answers 124 = .ok (.getfield 273, 3) := by decide +kernel
theorem dX17_answers_127 : decode cX17_answers 127 = .ok (.invokevirtual 280, 3) := by decide +kernel
theorem dX17_answers_130 : decode cX17_answers 130 = .ok (.iconst 2, 1) := by decide +kernel
theorem dX17_answers_131 : decode cX17_answers 131 = .ok (.invokevirtual 284, 3) := by decide +kernel
theorem dX17_answers_134 : decode cX17_answers 134 = .ok (.aload_n 0, 1) := by decide +kernel
theorem dX17_answers_135 : decode cX17_answers 135 = .ok (.aload_n 3, 1) := by decide +kernel
theorem dX17_answers_136 : decode cX17_answers 136 = .ok (.aload_n 0, 1) := by decide +kernel
theorem dX17_answers_137 : decode cX17_answers 137 = .ok (.getfield 42, 3) := by decide +kernel
theorem dX17_answers_140 : decode cX17_answers 140 = .ok (.getfield 273, 3) := by decide +kernel
theorem dX17_answers_143 : decode cX17_answers 143 = .ok (.aload_n 2, 1) := by decide +kernel
theorem dX17_answers_144 : decode cX17_answers 144 = .ok (.invokevirtual 276, 3) := by decide +kernel
theorem dX17_answers_147 : decode cX17_answers 147 = .ok (.iconst 1, 1) := by decide +kernel
theorem dX17_answers_148 : decode cX17_answers 148 = .ok (.ireturn, 1) := by decide +kernel
theorem dX17_answers_149 : decode cX17_answers 149 = .ok (.aload_n 0, 1) := by decide +kernel
theorem dX17_answers_150 : decode cX17_answers 150 = .ok (.getfield 21, 3) := by decide +kernel
theorem dX17_answers_153 : decode cX17_answers 153 = .ok (.aload_n 1, 1) := by decide +kernel
theorem dX17_answers_154 : decode cX17_answers 154 = .ok (.aload_n 0, 1) := by decide +kernel
theorem dX17_answers_155 : decode cX17_answers 155 = .ok (.getfield 42, 3) := by decide +kernel
theorem dX17_answers_158 : decode cX17_answers 158 = .ok (.getfield 83, 3) := by decide +kernel
theorem dX17_answers_161 : decode cX17_answers 161 = .ok (.getfield 87, 3) := by decide +kernel
theorem dX17_answers_164 : decode cX17_answers 164 = .ok (.aload_n 0, 1) := by decide +kernel
theorem dX17_answers_165 : decode cX17_answers 165 = .ok (.getfield 42, 3) := by decide +kernel
theorem dX17_answers_168 : decode cX17_answers 168 = .ok (.getfield 83, 3) := by decide +kernel
theorem dX17_answers_171 : decode cX17_answers 171 = .ok (.bipush 7, 2) := by decide +kernel
theorem dX17_answers_173 : decode cX17_answers 173 = .ok (.invokevirtual 171, 3) := by decide +kernel
theorem dX17_answers_176 : decode cX17_answers 176 = .ok (.iadd, 1) := by decide +kernel
theorem dX17_answers_177 : decode cX17_answers 177 = .ok (.invokevirtual 288, 3) := by decide +kernel
theorem dX17_answers_180 : decode cX17_answers 180 = .ok (.ifCond .eq 5, 3) := by decide +kernel
theorem dX17_answers_183 : decode cX17_answers 183 = .ok (.iconst 1, 1) := by decide +kernel
theorem dX17_answers_184 : decode cX17_answers 184 = .ok (.ireturn, 1) := by decide +kernel
theorem dX17_answers_185 : decode cX17_answers 185 = .ok (.aload_n 0, 1) := by decide +kernel
theorem dX17_answers_186 : decode cX17_answers 186 = .ok (.dup, 1) := by decide +kernel
theorem dX17_answers_187 : decode cX17_answers 187 = .ok (.getfield 292, 3) := by decide +kernel
theorem dX17_answers_190 : decode cX17_answers 190 = .ok (.iconst 1, 1) := by decide +kernel
theorem dX17_answers_191 : decode cX17_answers 191 = .ok (.iadd, 1) := by decide +kernel
theorem dX17_answers_192 : decode cX17_answers 192 = .ok (.putfield 292, 3) := by decide +kernel
theorem dX17_answers_195 : decode cX17_answers 195 = .ok (.iconst 0, 1) := by decide +kernel
theorem dX17_answers_196 : decode cX17_answers 196 = .ok (.ireturn, 1) := by decide +kernel
theorem dX17_answers_197 : decode cX17_answers 197 = .ok (.aload_n 0, 1) := by decide +kernel
theorem dX17_answers_198 : decode cX17_answers 198 = .ok (.aload_n 3, 1) := by decide +kernel
theorem dX17_answers_199 : decode cX17_answers 199 = .ok (.aload_n 0, 1) := by decide +kernel
theorem dX17_answers_200 : decode cX17_answers 200 = .ok (.getfield 42, 3) := by decide +kernel
theorem dX17_answers_203 : decode cX17_answers 203 = .ok (.getfield 273, 3) := by decide +kernel
theorem dX17_answers_206 : decode cX17_answers 206 = .ok (.invokevirtual 295, 3) := by decide +kernel
theorem dX17_answers_209 : decode cX17_answers 209 = .ok (.iconst 1, 1) := by decide +kernel
theorem dX17_answers_210 : decode cX17_answers 210 = .ok (.ireturn, 1) := by decide +kernel
theorem dX17_answers_211 : decode cX17_answers 211 = .ok (.aload_n 0, 1) := by decide +kernel
theorem dX17_answers_212 : decode cX17_answers 212 = .ok (.aload_n 3, 1) := by decide +kernel
theorem dX17_answers_213 : decode cX17_answers 213 = .ok (.aload_n 0, 1) := by decide +kernel
theorem dX17_answers_214 : decode cX17_answers 214 = .ok (.getfield 42, 3) := by decide +kernel
theorem dX17_answers_217 : decode cX17_answers 217 = .ok (.getfield 273, 3) := by decide +kernel
theorem dX17_answers_220 : decode cX17_answers 220 = .ok (.aload_n 1, 1) := by decide +kernel
theorem dX17_answers_221 : decode cX17_answers 221 = .ok (.invokevirtual 299, 3) := by decide +kernel
theorem dX17_answers_224 : decode cX17_answers 224 = .ok (.iconst 1, 1) := by decide +kernel
theorem dX17_answers_225 : decode cX17_answers 225 = .ok (.ireturn, 1) := by decide +kernel
theorem dX17_answers_226 : decode cX17_answers 226 = .ok (.aload_n 0, 1) := by decide +kernel
theorem dX17_answers_227 : decode cX17_answers 227 = .ok (.aload_n 3, 1) := by decide +kernel
theorem dX17_answers_228 : decode cX17_answers 228 = .ok (.aload_n 0, 1) := by decide +kernel
theorem dX17_answers_229 : decode cX17_answers 229 = .ok (.getfield 42, 3) := by decide +kernel
theorem dX17_answers_232 : decode cX17_answers 232 = .ok (.getfield 273, 3) := by decide +kernel
theorem dX17_answers_235 : decode cX17_answers 235 = .ok (.aload_n 1, 1) := by decide +kernel
theorem dX17_answers_236 : decode cX17_answers 236 = .ok (.invokevirtual 303, 3) := by decide +kernel
theorem dX17_answers_239 : decode cX17_answers 239 = .ok (.iconst 1, 1) := by decide +kernel
theorem dX17_answers_240 : decode cX17_answers 240 = .ok (.ireturn, 1) := by decide +kernel
theorem dX17_answers_241 : decode cX17_answers 241 = .ok (.iconst 1, 1) := by decide +kernel
theorem dX17_answers_242 : decode cX17_answers 242 = .ok (.ireturn, 1) := by decide +kernel
def j_X17_answers_183 (M : MM) : Option (Int × MM) :=
  some (1, M)
def f_X17_answers (x0 x1 x2 : Int) (M : MM) : Option (Int × MM) :=
  (gfr 17 0 x0 M).bind fun v1 =>
  (gfr 6 9 v1 M).bind fun v2 =>
  ck 4 x1 M <| (f_X4_type x1 M).bind fun v3 =>
  ck 4 x1 M <| (f_X4_number x1 M).bind fun v4 =>
  (gfr 17 2 x0 M).bind fun v5 =>
  ck 4 v2 M <| (f_X4_begin v2 (v3 + 1) v4 v5 M).bind fun M1 =>
  (gfr 17 0 x0 M1).bind fun v6 =>
  (gfr 6 13 v6 M1).bind fun v7 =>
  ck 4 x1 M1 <| (f_X4_getKey x1 25 v7 M1).bind fun M2 =>
  ck 4 x1 M2 <| (f_X4_type x1 M2).bind fun v8 =>
  swt (w32 v8) 3 [
    (
    (gfr 17 0 x0 M2).bind fun v9 =>
    (gfr 6 13 v9 M2).bind fun v10 =>
    ck 17 x0 M2 <| (f_X17_putNodes x0 v2 v10 x2 M2).bind fun M3 =>
    some (1, M3)
    ),
    (
    some (1, M2)
    ),
    (
    (gfr 17 6 x0 M2).bind fun v11 =>
    (gfr 17 0 x0 M2).bind fun v12 =>
    (gfr 6 13 v12 M2).bind fun v13 =>
    ck 18 v11 M2 <| (f_X18_count v11 v13 M2).bind fun v14 =>
    ck 4 v2 M2 <| (f_X4_put v2 v14 2 M2).bind fun M4 =>
    (gfr 17 0 x0 M4).bind fun v15 =>
    (gfr 6 13 v15 M4).bind fun v16 =>
    ck 17 x0 M4 <| (f_X17_putNodes x0 v2 v16 x2 M4).bind fun M5 =>
    some (1, M5)
    ),
    (
    some (1, M2)
    ),
    (
    (gfr 17 6 x0 M2).bind fun v17 =>
    (gfr 17 0 x0 M2).bind fun v18 =>
    (gfr 6 2 v18 M2).bind fun v19 =>
    (gfi 7 3 v19 M2).bind fun v20 =>
    (gfr 17 0 x0 M2).bind fun v21 =>
    (gfr 6 2 v21 M2).bind fun v22 =>
    ck 7 v22 M2 <| (f_X7_setting v22 7 M2).bind fun v23 =>
    ck 18 v17 M2 <| (f_X18_keep v17 x1 (v20 + v23) M2).bind fun r1 =>
    if w32 r1.1 = 0 then
      (gfi 17 13 x0 r1.2).bind fun v24 =>
      (pfi 17 13 x0 (v24 + 1) r1.2).bind fun M6 =>
      some (0, M6)
    else
      j_X17_answers_183 r1.2
    ),
    (
    some (1, M2)
    ),
    (
    (gfr 17 0 x0 M2).bind fun v25 =>
    (gfr 6 13 v25 M2).bind fun v26 =>
    ck 17 x0 M2 <| (f_X17_putBits x0 v2 v26 M2).bind fun M7 =>
    some (1, M7)
    ),
    (
    some (1, M2)
    ),
    (
    (gfr 17 0 x0 M2).bind fun v27 =>
    (gfr 6 13 v27 M2).bind fun v28 =>
    ck 17 x0 M2 <| (f_X17_putMatches x0 v2 v28 x1 M2).bind fun M8 =>
    some (1, M8)
    ),
    (
    some (1, M2)
    ),
    (
    (gfr 17 0 x0 M2).bind fun v29 =>
    (gfr 6 13 v29 M2).bind fun v30 =>
    ck 17 x0 M2 <| (f_X17_putChecked x0 v2 v30 x1 M2).bind fun M9 =>
    some (1, M9)
    )
    ] (
    some (1, M2)
    )
theorem s_X17_answers_183 {g : GG} {d : Nat} (hD : 8 ≤ d) {M : MM} {o : AV × MM} {P : (Int × MM) → Prop} (r0 : ∀ r : Int × MM, P r → o = ((0, r.1), r.2)) {z : Int × MM} (h : j_X17_answers_183 M = some z) (hz : P z) : Sem g d YX17_answers 183 [(9, 0), (9, 0), (9, 0), (9, 0)] [] M o := by
  delta j_X17_answers_183 at h
  refine S_iconst dX17_answers_183 rfl ?_
  obtain rfl := r0 _ (some_P (P := fun r => P r) h hz)
  exact P_ret dX17_answers_184 rfl (Or.inr ⟨rfl, Or.inr rfl⟩)
theorem s_X17_answers_0 {g : GG} {d : Nat} (hD : 8 ≤ d) {x0 x1 x2 : Int} {M : MM} {o : AV × MM} {P : (Int × MM) → Prop} (r0 : ∀ r : Int × MM, P r → o = ((0, r.1), r.2)) {z : Int × MM} (h : f_X17_answers x0 x1 x2 M = some z) (hz : P z) : Sem g d YX17_answers 0 [(1, x0), (1, x1), (1, x2), (9, 0)] [] M o := by
  delta f_X17_answers at h
  refine S_aload_n (i := 0) dX17_answers_0 rfl rfl ?_
  refine P_gfr FLX17_42 rfl dX17_answers_1 h (fun v1 h => ?_)
  refine P_gfr FLX17_247 rfl dX17_answers_4 h (fun v2 h => ?_)
  refine S_astore_n (i := 3) dX17_answers_7 rfl (Nat.le_of_ble_eq_true rfl) rfl rfl ?_
  change Sem g d YX17_answers 8 [(1, x0), (1, x1), (1, x2), (1, v2)] [] M o
  refine S_aload_n (i := 3) dX17_answers_8 rfl rfl ?_
  refine S_aload_n (i := 1) dX17_answers_9 rfl rfl ?_
  refine P_invVp 0 [] [(1, v2)] CVX4_type MLX17_146 dX17_answers_10 rfl rfl rfl rfl rfl (by omega) h (fun r h => F_X4_type (by omega) h) (fun v3 h => ?_)
  refine S_iconst dX17_answers_13 rfl ?_
  refine S_iadd dX17_answers_14 ?_
  refine S_aload_n (i := 1) dX17_answers_15 rfl rfl ?_
  refine P_invVp 0 [] [(0, v3 + 1), (1, v2)] CVX4_number MLX17_250 dX17_answers_16 rfl rfl rfl rfl rfl (by omega) h (fun r h => F_X4_number (by omega) h) (fun v4 h => ?_)
  refine S_aload_n (i := 0) dX17_answers_19 rfl rfl ?_
  refine P_gfr FLX17_12 rfl dX17_answers_20 h (fun v5 h => ?_)
  refine P_invVm' [(0, v3 + 1), (0, v4), (1, v5)] [] CVX4_begin MLX17_123 dX17_answers_23 rfl rfl rfl rfl (by omega) h (fun r h => F_X4_begin (by omega) h) (fun M1 h => ?_)
  refine S_aload_n (i := 1) dX17_answers_26 rfl rfl ?_
  refine S_bipush (z := 25) dX17_answers_27 rfl ?_
  refine S_aload_n (i := 0) dX17_answers_29 rfl rfl ?_
  refine P_gfr FLX17_42 rfl dX17_answers_30 h (fun v6 h => ?_)
  refine P_gfr FLX17_273 rfl dX17_answers_33 h (fun v7 h => ?_)
  refine P_invVm' [(0, 25), (1, v7)] [] CVX4_getKey MLX17_225 dX17_answers_36 rfl rfl rfl rfl (by omega) h (fun r h => F_X4_getKey (by omega) h) (fun M2 h => ?_)
  refine S_aload_n (i := 1) dX17_answers_39 rfl rfl ?_
  refine P_invVp 0 [] [] CVX4_type MLX17_146 dX17_answers_40 rfl rfl rfl rfl rfl (by omega) h (fun r h => F_X4_type (by omega) h) (fun v8 h => ?_)
  refine P_swt [100, 241, 115, 241, 149, 241, 197, 241, 211, 241, 226] 241 dX17_answers_43 rfl rfl rfl rfl h ?_ (fun h => ?_)
  · intro i X hX h t ht
    rcases i with _ | i
    · have e1 := Option.some.inj hX
      have e2 := Option.some.inj ht
      subst e1
      subst e2
      refine S_aload_n (i := 0) dX17_answers_100 rfl rfl ?_
      refine S_aload_n (i := 3) dX17_answers_101 rfl rfl ?_
      refine S_aload_n (i := 0) dX17_answers_102 rfl rfl ?_
      refine P_gfr FLX17_42 rfl dX17_answers_103 h (fun v9 h => ?_)
      refine P_gfr FLX17_273 rfl dX17_answers_106 h (fun v10 h => ?_)
      refine S_aload_n (i := 2) dX17_answers_109 rfl rfl ?_
      refine P_invVm' [(1, v2), (1, v10), (1, x2)] [] CVX17_putNodes MLX17_276 dX17_answers_110 rfl rfl rfl rfl (by omega) h (fun r h => F_X17_putNodes (by omega) h) (fun M3 h => ?_)
      refine S_iconst dX17_answers_113 rfl ?_
      obtain rfl := r0 _ (some_P (P := fun r => P r) h hz)
      exact P_ret dX17_answers_114 rfl (Or.inr ⟨rfl, Or.inr rfl⟩)
    rcases i with _ | i
    · have e1 := Option.some.inj hX
      have e2 := Option.some.inj ht
      subst e1
      subst e2
      refine S_iconst dX17_answers_241 rfl ?_
      obtain rfl := r0 _ (some_P (P := fun r => P r) h hz)
      exact P_ret dX17_answers_242 rfl (Or.inr ⟨rfl, Or.inr rfl⟩)
    rcases i with _ | i
    · have e1 := Option.some.inj hX
      have e2 := Option.some.inj ht
      subst e1
      subst e2
      refine S_aload_n (i := 3) dX17_answers_115 rfl rfl ?_
      refine S_aload_n (i := 0) dX17_answers_116 rfl rfl ?_
      refine P_gfr FLX17_21 rfl dX17_answers_117 h (fun v11 h => ?_)
      refine S_aload_n (i := 0) dX17_answers_120 rfl rfl ?_
      refine P_gfr FLX17_42 rfl dX17_answers_121 h (fun v12 h => ?_)
      refine P_gfr FLX17_273 rfl dX17_answers_124 h (fun v13 h => ?_)
      refine P_invVp 0 [(1, v13)] [(1, v2)] CVX18_count MLX17_280 dX17_answers_127 rfl rfl rfl rfl rfl (by omega) h (fun r h => F_X18_count (by omega) h) (fun v14 h => ?_)
      refine S_iconst dX17_answers_130 rfl ?_
      refine P_invVm' [(0, v14), (0, 2)] [] CVX4_put MLX17_284 dX17_answers_131 rfl rfl rfl rfl (by omega) h (fun r h => F_X4_put (by omega) h) (fun M4 h => ?_)
      refine S_aload_n (i := 0) dX17_answers_134 rfl rfl ?_
      refine S_aload_n (i := 3) dX17_answers_135 rfl rfl ?_
      refine S_aload_n (i := 0) dX17_answers_136 rfl rfl ?_
      refine P_gfr FLX17_42 rfl dX17_answers_137 h (fun v15 h => ?_)
      refine P_gfr FLX17_273 rfl dX17_answers_140 h (fun v16 h => ?_)
      refine S_aload_n (i := 2) dX17_answers_143 rfl rfl ?_
      refine P_invVm' [(1, v2), (1, v16), (1, x2)] [] CVX17_putNodes MLX17_276 dX17_answers_144 rfl rfl rfl rfl (by omega) h (fun r h => F_X17_putNodes (by omega) h) (fun M5 h => ?_)
      refine S_iconst dX17_answers_147 rfl ?_
      obtain rfl := r0 _ (some_P (P := fun r => P r) h hz)
      exact P_ret dX17_answers_148 rfl (Or.inr ⟨rfl, Or.inr rfl⟩)
    rcases i with _ | i
    · have e1 := Option.some.inj hX
      have e2 := Option.some.inj ht
      subst e1
      subst e2
      refine S_iconst dX17_answers_241 rfl ?_
      obtain rfl := r0 _ (some_P (P := fun r => P r) h hz)
      exact P_ret dX17_answers_242 rfl (Or.inr ⟨rfl, Or.inr rfl⟩)
    rcases i with _ | i
    · have e1 := Option.some.inj hX
      have e2 := Option.some.inj ht
      subst e1
      subst e2
      refine S_aload_n (i := 0) dX17_answers_149 rfl rfl ?_
      refine P_gfr FLX17_21 rfl dX17_answers_150 h (fun v17 h => ?_)
      refine S_aload_n (i := 1) dX17_answers_153 rfl rfl ?_
      refine S_aload_n (i := 0) dX17_answers_154 rfl rfl ?_
      refine P_gfr FLX17_42 rfl dX17_answers_155 h (fun v18 h => ?_)
      refine P_gfr FLX17_83 rfl dX17_answers_158 h (fun v19 h => ?_)
      refine P_gfi FLX17_87 rfl dX17_answers_161 h (fun v20 h => ?_)
      refine S_aload_n (i := 0) dX17_answers_164 rfl rfl ?_
      refine P_gfr FLX17_42 rfl dX17_answers_165 h (fun v21 h => ?_)
      refine P_gfr FLX17_83 rfl dX17_answers_168 h (fun v22 h => ?_)
      refine S_bipush (z := 7) dX17_answers_171 rfl ?_
      refine P_invVp 0 [(0, 7)] [(0, v20), (1, x1), (1, v17)] CVX7_setting MLX17_171 dX17_answers_173 rfl rfl rfl rfl rfl (by omega) h (fun r h => F_X7_setting (by omega) h) (fun v23 h => ?_)
      refine S_iadd dX17_answers_176 ?_
      refine P_invVe 0 [(1, x1), (0, v20 + v23)] [] CVX18_keep MLX17_288 dX17_answers_177 rfl rfl rfl rfl rfl (by omega) h (fun r h => F_X18_keep (by omega) h) (fun r1 h => ?_)
      refine P_if_eq (tgt := 185) dX17_answers_180 rfl h (fun h => ?_) (fun h => ?_)
      · refine S_aload_n (i := 0) dX17_answers_185 rfl rfl ?_
        refine S_dup dX17_answers_186 (Nat.le_of_ble_eq_true rfl) ?_
        refine P_gfi FLX17_292 rfl dX17_answers_187 h (fun v24 h => ?_)
        refine S_iconst dX17_answers_190 rfl ?_
        refine S_iadd dX17_answers_191 ?_
        refine P_pfi FLX17_292 FPX17_292 rfl dX17_answers_192 h (fun M6 h => ?_)
        refine S_iconst dX17_answers_195 rfl ?_
        obtain rfl := r0 _ (some_P (P := fun r => P r) h hz)
        exact P_ret dX17_answers_196 rfl (Or.inr ⟨rfl, Or.inl rfl⟩)
      · refine S_weak (ls' := [(9, 0), (9, 0), (9, 0), (9, 0)]) ⟨Or.inl rfl, ⟨Or.inl rfl, ⟨Or.inl rfl, ⟨Or.inl rfl, trivial⟩⟩⟩⟩ ?_
        exact s_X17_answers_183 hD r0 h hz
    rcases i with _ | i
    · have e1 := Option.some.inj hX
      have e2 := Option.some.inj ht
      subst e1
      subst e2
      refine S_iconst dX17_answers_241 rfl ?_
      obtain rfl := r0 _ (some_P (P := fun r => P r) h hz)
      exact P_ret dX17_answers_242 rfl (Or.inr ⟨rfl, Or.inr rfl⟩)
    rcases i with _ | i
    · have e1 := Option.some.inj hX
      have e2 := Option.some.inj ht
      subst e1
      subst e2
      refine S_aload_n (i := 0) dX17_answers_197 rfl rfl ?_
      refine S_aload_n (i := 3) dX17_answers_198 rfl rfl ?_
      refine S_aload_n (i := 0) dX17_answers_199 rfl rfl ?_
      refine P_gfr FLX17_42 rfl dX17_answers_200 h (fun v25 h => ?_)
      refine P_gfr FLX17_273 rfl dX17_answers_203 h (fun v26 h => ?_)
      refine P_invVm' [(1, v2), (1, v26)] [] CVX17_putBits MLX17_295 dX17_answers_206 rfl rfl rfl rfl (by omega) h (fun r h => F_X17_putBits (by omega) h) (fun M7 h => ?_)
      refine S_iconst dX17_answers_209 rfl ?_
      obtain rfl := r0 _ (some_P (P := fun r => P r) h hz)
      exact P_ret dX17_answers_210 rfl (Or.inr ⟨rfl, Or.inr rfl⟩)
    rcases i with _ | i
    · have e1 := Option.some.inj hX
      have e2 := Option.some.inj ht
      subst e1
      subst e2
      refine S_iconst dX17_answers_241 rfl ?_
      obtain rfl := r0 _ (some_P (P := fun r => P r) h hz)
      exact P_ret dX17_answers_242 rfl (Or.inr ⟨rfl, Or.inr rfl⟩)
    rcases i with _ | i
    · have e1 := Option.some.inj hX
      have e2 := Option.some.inj ht
      subst e1
      subst e2
      refine S_aload_n (i := 0) dX17_answers_211 rfl rfl ?_
      refine S_aload_n (i := 3) dX17_answers_212 rfl rfl ?_
      refine S_aload_n (i := 0) dX17_answers_213 rfl rfl ?_
      refine P_gfr FLX17_42 rfl dX17_answers_214 h (fun v27 h => ?_)
      refine P_gfr FLX17_273 rfl dX17_answers_217 h (fun v28 h => ?_)
      refine S_aload_n (i := 1) dX17_answers_220 rfl rfl ?_
      refine P_invVm' [(1, v2), (1, v28), (1, x1)] [] CVX17_putMatches MLX17_299 dX17_answers_221 rfl rfl rfl rfl (by omega) h (fun r h => F_X17_putMatches (by omega) h) (fun M8 h => ?_)
      refine S_iconst dX17_answers_224 rfl ?_
      obtain rfl := r0 _ (some_P (P := fun r => P r) h hz)
      exact P_ret dX17_answers_225 rfl (Or.inr ⟨rfl, Or.inr rfl⟩)
    rcases i with _ | i
    · have e1 := Option.some.inj hX
      have e2 := Option.some.inj ht
      subst e1
      subst e2
      refine S_iconst dX17_answers_241 rfl ?_
      obtain rfl := r0 _ (some_P (P := fun r => P r) h hz)
      exact P_ret dX17_answers_242 rfl (Or.inr ⟨rfl, Or.inr rfl⟩)
    rcases i with _ | i
    · have e1 := Option.some.inj hX
      have e2 := Option.some.inj ht
      subst e1
      subst e2
      refine S_aload_n (i := 0) dX17_answers_226 rfl rfl ?_
      refine S_aload_n (i := 3) dX17_answers_227 rfl rfl ?_
      refine S_aload_n (i := 0) dX17_answers_228 rfl rfl ?_
      refine P_gfr FLX17_42 rfl dX17_answers_229 h (fun v29 h => ?_)
      refine P_gfr FLX17_273 rfl dX17_answers_232 h (fun v30 h => ?_)
      refine S_aload_n (i := 1) dX17_answers_235 rfl rfl ?_
      refine P_invVm' [(1, v2), (1, v30), (1, x1)] [] CVX17_putChecked MLX17_303 dX17_answers_236 rfl rfl rfl rfl (by omega) h (fun r h => F_X17_putChecked (by omega) h) (fun M9 h => ?_)
      refine S_iconst dX17_answers_239 rfl ?_
      obtain rfl := r0 _ (some_P (P := fun r => P r) h hz)
      exact P_ret dX17_answers_240 rfl (Or.inr ⟨rfl, Or.inr rfl⟩)
    cases hX
  · refine S_iconst dX17_answers_241 rfl ?_
    obtain rfl := r0 _ (some_P (P := fun r => P r) h hz)
    exact P_ret dX17_answers_242 rfl (Or.inr ⟨rfl, Or.inr rfl⟩)
theorem F_X17_answers {g : GG} {d : Nat} (hD : 8 ≤ d) {x0 x1 x2 : Int} {M : MM} {r : Int × MM} (h : f_X17_answers x0 x1 x2 M = some r) : Sem g d YX17_answers 0 (ini YX17_answers [(1, x0), (1, x1), (1, x2)]) [] M ((0, r.1), r.2) := by
  change Sem g d YX17_answers 0 [(1, x0), (1, x1), (1, x2), (9, 0)] [] M ((0, r.1), r.2)
  exact s_X17_answers_0 hD (P := fun x => x = r) (fun q e => by rw [e]) h rfl
/-! PeerSearch$Board.sideOf(I)I -/
theorem dX6_sideOf_0 : decode cX6_sideOf 0 = .ok (.iload_n 1, 1) := by decide +kernel
theorem dX6_sideOf_1 : decode cX6_sideOf 1 = .ok (.aload_n 0, 1) := by decide +kernel
theorem dX6_sideOf_2 : decode cX6_sideOf 2 = .ok (.getfield 87, 3) := by decide +kernel
theorem dX6_sideOf_5 : decode cX6_sideOf 5 = .ok (.if_icmp .ge 15, 3) := by decide +kernel
theorem dX6_sideOf_8 : decode cX6_sideOf 8 = .ok (.aload_n 0, 1) := by decide +kernel
theorem dX6_sideOf_9 : decode cX6_sideOf 9 = .ok (.getfield 34, 3) := by decide +kernel
theorem dX6_sideOf_12 : decode cX6_sideOf 12 = .ok (.iload_n 1, 1) := by decide +kernel
theorem dX6_sideOf_13 : decode cX6_sideOf 13 = .ok (.aaload, 1) := by decide +kernel
theorem dX6_sideOf_14 : decode cX6_sideOf 14 = .ok (.getfield 90, 3) := by decide +kernel
theorem dX6_sideOf_17 : decode cX6_sideOf 17 = .ok (.goto 4, 3) := by decide +kernel
theorem dX6_sideOf_20 : decode cX6_sideOf 20 = .ok (.iconst 0, 1) := by decide +kernel
theorem dX6_sideOf_21 : decode cX6_sideOf 21 = .ok (.ireturn, 1) := by decide +kernel
def j_X6_sideOf_21 (y0 : Int) (M : MM) : Option (Int) :=
  some y0
def f_X6_sideOf (x0 x1 : Int) (M : MM) : Option (Int) :=
  (gfi 6 6 x0 M).bind fun v1 =>
  if w32 x1 < w32 v1 then
    (gfr 6 5 x0 M).bind fun v2 =>
    (lar 7 v2 x1 M).bind fun v3 =>
    (gfi 17 4 v3 M).bind fun v4 =>
    j_X6_sideOf_21 v4 M
  else
    j_X6_sideOf_21 0 M
theorem s_X6_sideOf_21 {g : GG} {d : Nat} (hD : 0 ≤ d) {y0 : Int} {M : MM} {o : AV × MM} {P : (Int) → Prop} (r0 : ∀ r : Int, P r → o = ((0, r), M)) {z : Int} (h : j_X6_sideOf_21 y0 M = some z) (hz : P z) : Sem g d YX6_sideOf 21 [(9, 0), (9, 0)] [(0, y0)] M o := by
  delta j_X6_sideOf_21 at h
  obtain rfl := r0 _ (some_P (P := fun r => P r) h hz)
  exact P_ret dX6_sideOf_21 rfl (Or.inl rfl)
theorem s_X6_sideOf_0 {g : GG} {d : Nat} (hD : 0 ≤ d) {x0 x1 : Int} {M : MM} {o : AV × MM} {P : (Int) → Prop} (r0 : ∀ r : Int, P r → o = ((0, r), M)) {z : Int} (h : f_X6_sideOf x0 x1 M = some z) (hz : P z) : Sem g d YX6_sideOf 0 [(1, x0), (0, x1)] [] M o := by
  delta f_X6_sideOf at h
  refine S_iload_n (i := 1) dX6_sideOf_0 rfl rfl ?_
  refine S_aload_n (i := 0) dX6_sideOf_1 rfl rfl ?_
  refine P_gfi FLX6_87 rfl dX6_sideOf_2 h (fun v1 h => ?_)
  refine P_icmp_ge (tgt := 20) dX6_sideOf_5 rfl h (fun h => ?_) (fun h => ?_)
  · refine S_iconst dX6_sideOf_20 rfl ?_
    refine S_weak (ls' := [(9, 0), (9, 0)]) ⟨Or.inl rfl, ⟨Or.inl rfl, trivial⟩⟩ ?_
    exact s_X6_sideOf_21 hD r0 h hz
  · refine S_aload_n (i := 0) dX6_sideOf_8 rfl rfl ?_
    refine P_gfr FLX6_34 rfl dX6_sideOf_9 h (fun v2 h => ?_)
    refine S_iload_n (i := 1) dX6_sideOf_12 rfl rfl ?_
    refine P_lar (t := 7) ⟨by decide, by decide⟩ dX6_sideOf_13 h (fun v3 h => ?_)
    refine P_gfi FLX6_90 rfl dX6_sideOf_14 h (fun v4 h => ?_)
    refine S_goto (tgt := 21) dX6_sideOf_17 rfl ?_
    refine S_weak (ls' := [(9, 0), (9, 0)]) ⟨Or.inl rfl, ⟨Or.inl rfl, trivial⟩⟩ ?_
    exact s_X6_sideOf_21 hD r0 h hz
theorem F_X6_sideOf {g : GG} {d : Nat} (hD : 0 ≤ d) {x0 x1 : Int} {M : MM} {r : Int} (h : f_X6_sideOf x0 x1 M = some r) : Sem g d YX6_sideOf 0 (ini YX6_sideOf [(1, x0), (0, x1)]) [] M ((0, r), M) := by
  change Sem g d YX6_sideOf 0 [(1, x0), (0, x1)] [] M ((0, r), M)
  exact s_X6_sideOf_0 hD (P := fun x => x = r) (fun q e => by rw [e]) h rfl
/-! PeerSearch$Board.areApart(II)Z -/
theorem dX6_areApart_0 : decode cX6_areApart 0 = .ok (.aload_n 0, 1) := by decide +kernel
theorem dX6_areApart_1 : decode cX6_areApart 1 = .ok (.iload_n 1, 1) := by decide +kernel
theorem dX6_areApart_2 : decode cX6_areApart 2 = .ok (.invokevirtual 93, 3) := by decide +kernel
theorem dX6_areApart_5 : decode cX6_areApart 5 = .ok (.aload_n 0, 1) := by decide +kernel
theorem dX6_areApart_6 : decode cX6_areApart 6 = .ok (.iload_n 2, 1) := by decide +kernel
theorem dX6_areApart_7 : decode cX6_areApart 7 = .ok (.invokevirtual 93, 3) := by decide +kernel
theorem dX6_areApart_10 : decode cX6_areApart 10 = .ok (.if_icmp .eq 7, 3) := by decide +kernel
theorem dX6_areApart_13 : decode cX6_areApart 13 = .ok (.iconst 1, 1) := by decide +kernel
theorem dX6_areApart_14 : decode cX6_areApart 14 = .ok (.goto 4, 3) := by decide +kernel
theorem dX6_areApart_17 : decode cX6_areApart 17 = .ok (.iconst 0, 1) := by decide +kernel
theorem dX6_areApart_18 : decode cX6_areApart 18 = .ok (.ireturn, 1) := by decide +kernel
def j_X6_areApart_18 (y0 : Int) (M : MM) : Option (Int) :=
  bz y0 (some y0)
def f_X6_areApart (x0 x1 x2 : Int) (M : MM) : Option (Int) :=
  ck 6 x0 M <| (f_X6_sideOf x0 x1 M).bind fun v1 =>
  ck 6 x0 M <| (f_X6_sideOf x0 x2 M).bind fun v2 =>
  if w32 v1 = w32 v2 then
    j_X6_areApart_18 0 M
  else
    j_X6_areApart_18 1 M
theorem s_X6_areApart_18 {g : GG} {d : Nat} (hD : 1 ≤ d) {y0 : Int} {M : MM} {o : AV × MM} {P : (Int) → Prop} (r0 : ∀ r : Int, P r → o = ((0, r), M)) {z : Int} (h : j_X6_areApart_18 y0 M = some z) (hz : P z) : Sem g d YX6_areApart 18 [(9, 0), (9, 0), (9, 0)] [(0, y0)] M o := by
  delta j_X6_areApart_18 at h
  obtain ⟨hb, h⟩ := bz_some h
  obtain rfl := r0 _ (some_P (P := fun r => P r) h hz)
  exact P_ret dX6_areApart_18 rfl (Or.inr ⟨rfl, hb⟩)
theorem s_X6_areApart_0 {g : GG} {d : Nat} (hD : 1 ≤ d) {x0 x1 x2 : Int} {M : MM} {o : AV × MM} {P : (Int) → Prop} (r0 : ∀ r : Int, P r → o = ((0, r), M)) {z : Int} (h : f_X6_areApart x0 x1 x2 M = some z) (hz : P z) : Sem g d YX6_areApart 0 [(1, x0), (0, x1), (0, x2)] [] M o := by
  delta f_X6_areApart at h
  refine S_aload_n (i := 0) dX6_areApart_0 rfl rfl ?_
  refine S_iload_n (i := 1) dX6_areApart_1 rfl rfl ?_
  refine P_invVp 0 [(0, x1)] [] CVX6_sideOf MLX6_93 dX6_areApart_2 rfl rfl rfl rfl rfl (by omega) h (fun r h => F_X6_sideOf (by omega) h) (fun v1 h => ?_)
  refine S_aload_n (i := 0) dX6_areApart_5 rfl rfl ?_
  refine S_iload_n (i := 2) dX6_areApart_6 rfl rfl ?_
  refine P_invVp 0 [(0, x2)] [(0, v1)] CVX6_sideOf MLX6_93 dX6_areApart_7 rfl rfl rfl rfl rfl (by omega) h (fun r h => F_X6_sideOf (by omega) h) (fun v2 h => ?_)
  refine P_icmp_eq (tgt := 17) dX6_areApart_10 rfl h (fun h => ?_) (fun h => ?_)
  · refine S_iconst dX6_areApart_17 rfl ?_
    refine S_weak (ls' := [(9, 0), (9, 0), (9, 0)]) ⟨Or.inl rfl, ⟨Or.inl rfl, ⟨Or.inl rfl, trivial⟩⟩⟩ ?_
    exact s_X6_areApart_18 hD r0 h hz
  · refine S_iconst dX6_areApart_13 rfl ?_
    refine S_goto (tgt := 18) dX6_areApart_14 rfl ?_
    refine S_weak (ls' := [(9, 0), (9, 0), (9, 0)]) ⟨Or.inl rfl, ⟨Or.inl rfl, ⟨Or.inl rfl, trivial⟩⟩⟩ ?_
    exact s_X6_areApart_18 hD r0 h hz
theorem F_X6_areApart {g : GG} {d : Nat} (hD : 1 ≤ d) {x0 x1 x2 : Int} {M : MM} {r : Int} (h : f_X6_areApart x0 x1 x2 M = some r) : Sem g d YX6_areApart 0 (ini YX6_areApart [(1, x0), (0, x1), (0, x2)]) [] M ((0, r), M) := by
  change Sem g d YX6_areApart 0 [(1, x0), (0, x1), (0, x2)] [] M ((0, r), M)
  exact s_X6_areApart_0 hD (P := fun x => x = r) (fun q e => by rw [e]) h rfl
/-! PeerSearch$Net.draw()I -/
theorem dX7_draw_0 : decode cX7_draw 0 = .ok (.aload_n 0, 1) := by decide +kernel
theorem dX7_draw_1 : decode cX7_draw 1 = .ok (.getfield 9, 3) := by decide +kernel
theorem dX7_draw_4 : decode cX7_draw 4 = .ok (.bipush 10, 2) := by decide +kernel
theorem dX7_draw_6 : decode cX7_draw 6 = .ok (.aload_n 0, 1) := by decide +kernel
theorem dX7_draw_7 : decode cX7_draw 7 = .ok (.getfield 9, 3) := by decide +kernel
theorem dX7_draw_10 : decode cX7_draw 10 = .ok (.bipush 10, 2) := by decide +kernel
theorem dX7_draw_12 : decode cX7_draw 12 = .ok (.iaload, 1) := by decide +kernel
theorem dX7_draw_13 : decode cX7_draw 13 = .ok (.ldc 33, 2) := by decide +kernel
theorem dX7_draw_15 : decode cX7_draw 15 = .ok (.imul, 1) := by decide +kernel
theorem dX7_draw_16 : decode cX7_draw 16 = .ok (.sipush 12345, 3) := by decide +kernel
theorem dX7_draw_19 : decode cX7_draw 19 = .ok (.iadd, 1) := by decide +kernel
theorem dX7_draw_20 : decode cX7_draw 20 = .ok (.ldc 36, 2) := by decide +kernel
theorem dX7_draw_22 : decode cX7_draw 22 = .ok (.iand, 1) := by decide +kernel
theorem dX7_draw_23 : decode cX7_draw 23 = .ok (.iastore, 1) := by decide +kernel
theorem dX7_draw_24 : decode cX7_draw 24 = .ok (.aload_n 0, 1) := by decide +kernel
theorem dX7_draw_25 : decode cX7_draw 25 = .ok (.getfield 9, 3) := by decide +kernel
theorem dX7_draw_28 : decode cX7_draw 28 = .ok (.bipush 10, 2) := by decide +kernel
theorem dX7_draw_30 : decode cX7_draw 30 = .ok (.iaload, 1) := by decide +kernel
theorem dX7_draw_31 : decode cX7_draw 31 = .ok (.ldc 37, 2) := by decide +kernel
theorem dX7_draw_33 : decode cX7_draw 33 = .ok (.idiv, 1) := by decide +kernel
theorem dX7_draw_34 : decode cX7_draw 34 = .ok (.ireturn, 1) := by decide +kernel
def f_X7_draw (x0 : Int) (M : MM) : Option (Int × MM) :=
  (gfr 7 0 x0 M).bind fun v1 =>
  (gfr 7 0 x0 M).bind fun v2 =>
  (lai v2 10 M).bind fun v3 =>
  (sai v1 10 (band ((v3 * 1103515245) + 12345) 2147483647) M).bind fun M1 =>
  (gfr 7 0 x0 M1).bind fun v4 =>
  (lai v4 10 M1).bind fun v5 =>
  (dvi v5 65536).bind fun v6 =>
  some (v6, M1)
theorem s_X7_draw_0 {g : GG} {d : Nat} (hD : 0 ≤ d) {x0 : Int} {M : MM} {o : AV × MM} {P : (Int × MM) → Prop} (r0 : ∀ r : Int × MM, P r → o = ((0, r.1), r.2)) {z : Int × MM} (h : f_X7_draw x0 M = some z) (hz : P z) : Sem g d YX7_draw 0 [(1, x0)] [] M o := by
  delta f_X7_draw at h
  refine S_aload_n (i := 0) dX7_draw_0 rfl rfl ?_
  refine P_gfr FLX7_9 rfl dX7_draw_1 h (fun v1 h => ?_)
  refine S_bipush (z := 10) dX7_draw_4 rfl ?_
  refine S_aload_n (i := 0) dX7_draw_6 rfl rfl ?_
  refine P_gfr FLX7_9 rfl dX7_draw_7 h (fun v2 h => ?_)
  refine S_bipush (z := 10) dX7_draw_10 rfl ?_
  refine P_lai dX7_draw_12 h (fun v3 h => ?_)
  refine S_ldc (z := 1103515245) kX7_33 dX7_draw_13 ?_
  refine S_imul dX7_draw_15 ?_
  refine S_sipush (z := 12345) dX7_draw_16 rfl ?_
  refine S_iadd dX7_draw_19 ?_
  refine S_ldc (z := 2147483647) kX7_36 dX7_draw_20 ?_
  refine S_iand dX7_draw_22 ?_
  refine P_sai dX7_draw_23 h (fun M1 h => ?_)
  refine S_aload_n (i := 0) dX7_draw_24 rfl rfl ?_
  refine P_gfr FLX7_9 rfl dX7_draw_25 h (fun v4 h => ?_)
  refine S_bipush (z := 10) dX7_draw_28 rfl ?_
  refine P_lai dX7_draw_30 h (fun v5 h => ?_)
  refine S_ldc (z := 65536) kX7_37 dX7_draw_31 ?_
  refine P_dvi dX7_draw_33 h (fun v6 h => ?_)
  obtain rfl := r0 _ (some_P (P := fun r => P r) h hz)
  exact P_ret dX7_draw_34 rfl (Or.inl rfl)
theorem F_X7_draw {g : GG} {d : Nat} (hD : 0 ≤ d) {x0 : Int} {M : MM} {r : Int × MM} (h : f_X7_draw x0 M = some r) : Sem g d YX7_draw 0 (ini YX7_draw [(1, x0)]) [] M ((0, r.1), r.2) := by
  change Sem g d YX7_draw 0 [(1, x0)] [] M ((0, r.1), r.2)
  exact s_X7_draw_0 hD (P := fun x => x = r) (fun q e => by rw [e]) h rfl
/-! PeerSearch$Net.arrival()I -/
theorem dX7_arrival_0 : decode cX7_arrival 0 = .ok (.aload_n 0, 1) := by decide +kernel
theorem dX7_arrival_1 : decode cX7_arrival 1 = .ok (.getfield 59, 3) := by decide +kernel
theorem dX7_arrival_4 : decode cX7_arrival 4 = .ok (.aload_n 0, 1) := by decide +kernel
theorem dX7_arrival_5 : decode cX7_arrival 5 = .ok (.getfield 9, 3) := by decide +kernel
theorem dX7_arrival_8 : decode cX7_arrival 8 = .ok (.iconst 1, 1) := by decide +kernel
theorem dX7_arrival_9 : decode cX7_arrival 9 = .ok (.iaload, 1) := by decide +kernel
theorem dX7_arrival_10 : decode cX7_arrival 10 = .ok (.iadd, 1) := by decide +kernel
theorem dX7_arrival_11 : decode cX7_arrival 11 = .ok (.aload_n 0, 1) := by decide +kernel
theorem dX7_arrival_12 : decode cX7_arrival 12 = .ok (.invokevirtual 62, 3) := by decide +kernel
theorem dX7_arrival_15 : decode cX7_arrival 15 = .ok (.aload_n 0, 1) := by decide +kernel
theorem dX7_arrival_16 : decode cX7_arrival 16 = .ok (.getfield 9, 3) := by decide +kernel
theorem dX7_arrival_19 : decode cX7_arrival 19 = .ok (.iconst 2, 1) := by decide +kernel
theorem dX7_arrival_20 : decode cX7_arrival 20 = .ok (.iaload, 1) := by decide +kernel
theorem dX7_arrival_21 : decode cX7_arrival 21 = .ok (.iconst 1, 1) := by decide +kernel
theorem dX7_arrival_22 : decode cX7_arrival 22 = .ok (.iadd, 1) := by decide +kernel
theorem dX7_arrival_23 : decode cX7_arrival 23 = .ok (.irem, 1) := by decide +kernel
theorem dX7_arrival_24 : decode cX7_arrival 24 = .ok (.iadd, 1) := by decide +kernel
theorem dX7_arrival_25 : decode cX7_arrival 25 = .ok (.ireturn, 1) := by decide +kernel
def f_X7_arrival (x0 : Int) (M : MM) : Option (Int × MM) :=
  (gfi 7 3 x0 M).bind fun v1 =>
  (gfr 7 0 x0 M).bind fun v2 =>
  (lai v2 1 M).bind fun v3 =>
  ck 7 x0 M <| (f_X7_draw x0 M).bind fun r1 =>
  (gfr 7 0 x0 r1.2).bind fun v4 =>
  (lai v4 2 r1.2).bind fun v5 =>
  (rmi r1.1 (v5 + 1)).bind fun v6 =>
  some ((v1 + v3) + v6, r1.2)
theorem s_X7_arrival_0 {g : GG} {d : Nat} (hD : 1 ≤ d) {x0 : Int} {M : MM} {o : AV × MM} {P : (Int × MM) → Prop} (r0 : ∀ r : Int × MM, P r → o = ((0, r.1), r.2)) {z : Int × MM} (h : f_X7_arrival x0 M = some z) (hz : P z) : Sem g d YX7_arrival 0 [(1, x0)] [] M o := by
  delta f_X7_arrival at h
  refine S_aload_n (i := 0) dX7_arrival_0 rfl rfl ?_
  refine P_gfi FLX7_59 rfl dX7_arrival_1 h (fun v1 h => ?_)
  refine S_aload_n (i := 0) dX7_arrival_4 rfl rfl ?_
  refine P_gfr FLX7_9 rfl dX7_arrival_5 h (fun v2 h => ?_)
  refine S_iconst dX7_arrival_8 rfl ?_
  refine P_lai dX7_arrival_9 h (fun v3 h => ?_)
  refine S_iadd dX7_arrival_10 ?_
  refine S_aload_n (i := 0) dX7_arrival_11 rfl rfl ?_
  refine P_invVe 0 [] [(0, v1 + v3)] CVX7_draw MLX7_62 dX7_arrival_12 rfl rfl rfl rfl rfl (by omega) h (fun r h => F_X7_draw (by omega) h) (fun r1 h => ?_)
  refine S_aload_n (i := 0) dX7_arrival_15 rfl rfl ?_
  refine P_gfr FLX7_9 rfl dX7_arrival_16 h (fun v4 h => ?_)
  refine S_iconst dX7_arrival_19 rfl ?_
  refine P_lai dX7_arrival_20 h (fun v5 h => ?_)
  refine S_iconst dX7_arrival_21 rfl ?_
  refine S_iadd dX7_arrival_22 ?_
  refine P_rmi dX7_arrival_23 h (fun v6 h => ?_)
  refine S_iadd dX7_arrival_24 ?_
  obtain rfl := r0 _ (some_P (P := fun r => P r) h hz)
  exact P_ret dX7_arrival_25 rfl (Or.inl rfl)
theorem F_X7_arrival {g : GG} {d : Nat} (hD : 1 ≤ d) {x0 : Int} {M : MM} {r : Int × MM} (h : f_X7_arrival x0 M = some r) : Sem g d YX7_arrival 0 (ini YX7_arrival [(1, x0)]) [] M ((0, r.1), r.2) := by
  change Sem g d YX7_arrival 0 [(1, x0)] [] M ((0, r.1), r.2)
  exact s_X7_arrival_0 hD (P := fun x => x = r) (fun q e => by rw [e]) h rfl
/-! PeerSearch$Net.send(IIZLPeerSearch$Packet;)V -/
theorem dX7_send_0 : decode cX7_send 0 = .ok (.iload_n 3, 1) := by decide +kernel
theorem dX7_send_1 : decode cX7_send 1 = .ok (.ifCond .ne 30, 3) := by decide +kernel
theorem dX7_send_4 : decode cX7_send 4 = .ok (.aload_n 0, 1) := by decide +kernel
theorem dX7_send_5 : decode cX7_send 5 = .ok (.getfield 38, 3) := by decide +kernel
theorem dX7_send_8 : decode cX7_send 8 = .ok (.sipush 400, 3) := by decide +kernel
theorem dX7_send_11 : decode cX7_send 11 = .ok (.if_icmp .eq 20, 3) := by decide +kernel
theorem dX7_send_14 : decode cX7_send 14 = .ok (.aload_n 0, 1) := by decide +kernel
theorem dX7_send_15 : decode cX7_send 15 = .ok (.invokevirtual 62, 3) := by decide +kernel
theorem dX7_send_18 : decode cX7_send 18 = .ok (.sipush 1000, 3) := by decide +kernel
theorem dX7_send_21 : decode cX7_send 21 = .ok (.irem, 1) := by decide +kernel
theorem dX7_send_22 : decode cX7_send 22 = .ok (.aload_n 0, 1) := by decide +kernel
theorem dX7_send_23 : decode cX7_send 23 = .ok (.getfield 9, 3) := by decide +kernel
theorem dX7_send_26 : decode cX7_send 26 = .ok (.iconst 0, 1) := by decide +kernel
theorem dX7_send_27 : decode cX7_send 27 = .ok (.iaload, 1) := by decide +kernel
theorem dX7_send_28 : decode cX7_send 28 = .ok (.if_icmp .ge 14, 3) := by decide +kernel
theorem dX7_send_31 : decode cX7_send 31 = .ok (.aload_n 0, 1) := by decide +kernel
theorem dX7_send_32 : decode cX7_send 32 = .ok (.dup, 1) := by decide +kernel
theorem dX7_send_33 : decode cX7_send 33 = .ok (.getfield 66, 3) := by decide +kernel
theorem dX7_send_36 : decode cX7_send 36 = .ok (.iconst 1, 1) := by decide +kernel
theorem dX7_send_37 : decode cX7_send 37 = .ok (.iadd, 1) := by decide +kernel
theorem dX7_send_38 : decode cX7_send 38 = .ok (.putfield 66, 3) := by decide +kernel
theorem dX7_send_41 : decode cX7_send 41 = .ok (.return_, 1) := by decide +kernel
theorem dX7_send_42 : decode cX7_send 42 = .ok (.aload_n 0, 1) := by decide +kernel
theorem dX7_send_43 : decode cX7_send 43 = .ok (.iload_n 1, 1) := by decide +kernel
theorem dX7_send_44 : decode cX7_send 44 = .ok (.iload_n 2, 1) := by decide +kernel
theorem dX7_send_45 : decode cX7_send 45 = .ok (.aload_n 0, 1) := by decide +kernel
theorem dX7_send_46 : decode cX7_send 46 = .ok (.invokevirtual 69, 3) := by decide +kernel
theorem dX7_send_49 : decode cX7_send 49 = .ok (.aload 4, 2) := by decide +kernel
theorem dX7_send_51 : decode cX7_send 51 = .ok (.invokevirtual 72, 3) := by decide +kernel
theorem dX7_send_54 : decode cX7_send 54 = .ok (.aload_n 0, 1) := by decide +kernel
theorem dX7_send_55 : decode cX7_send 55 = .ok (.invokevirtual 62, 3) := by decide +kernel
theorem dX7_send_58 : decode cX7_send 58 = .ok (.sipush 1000, 3) := by decide +kernel
theorem dX7_send_61 : decode cX7_send 61 = .ok (.irem, 1) := by decide +kernel
theorem dX7_send_62 : decode cX7_send 62 = .ok (.aload_n 0, 1) := by decide +kernel
theorem dX7_send_63 : decode cX7_send 63 = .ok (.getfield 9, 3) := by decide +kernel
theorem dX7_send_66 : decode cX7_send 66 = .ok (.iconst 3, 1) := by decide +kernel
theorem dX7_send_67 : decode cX7_send 67 = .ok (.iaload, 1) := by decide +kernel
theorem dX7_send_68 : decode cX7_send 68 = .ok (.if_icmp .lt 4, 3) := by decide +kernel
theorem dX7_send_71 : decode cX7_send 71 = .ok (.return_, 1) := by decide +kernel
theorem dX7_send_72 : decode cX7_send 72 = .ok (.aload_n 0, 1) := by decide +kernel
theorem dX7_send_73 : decode cX7_send 73 = .ok (.getfield 38, 3) := by decide +kernel
theorem dX7_send_76 : decode cX7_send 76 = .ok (.sipush 400, 3) := by decide +kernel
theorem dX7_send_79 : decode cX7_send 79 = .ok (.if_icmp .ne 16, 3) := by decide +kernel
theorem dX7_send_82 : decode cX7_send 82 = .ok (.aload_n 0, 1) := by decide +kernel
theorem dX7_send_83 : decode cX7_send 83 = .ok (.dup, 1) := by decide +kernel
theorem dX7_send_84 : decode cX7_send 84 = .ok (.getfield 66, 3) := by decide +kernel
theorem dX7_send_87 : decode cX7_send 87 = .ok (.iconst 1, 1) := by decide +kernel
theorem dX7_send_88 : decode cX7_send 88 = .ok (.iadd, 1) := by decide +kernel
theorem dX7_send_89 : decode cX7_send 89 = .ok (.putfield 66, 3) := by decide +kernel
theorem dX7_send_92 : decode cX7_send 92 = .ok (.goto 15, 3) := by decide +kernel
theorem dX7_send_95 : decode cX7_send 95 = .ok (.aload_n 0, 1) := by decide +kernel
theorem dX7_send_96 : decode cX7_send 96 = .ok (.iload_n 1, 1) := by decide +kernel
theorem dX7_send_97 : decode cX7_send 97 = .ok (.iload_n 2, 1) := by decide +kernel
theorem dX7_send_98 : decode cX7_send 98 = .ok (.aload_n 0, 1) := by decide +kernel
theorem dX7_send_99 : decode cX7_send 99 = .ok (.invokevirtual 69, 3) := by decide +kernel
theorem dX7_send_102 : decode cX7_send 102 = .ok (.aload 4, 2) := by decide +kernel
theorem dX7_send_104 : decode cX7_send 104 = .ok (.invokevirtual 72, 3) := by decide +kernel
theorem dX7_send_107 : decode cX7_send 107 = .ok (.return_, 1) := by decide +kernel
def j_X7_send_107 (M : MM) : Option (MM) :=
  some M
def j_X7_send_31 (x0 : Int) (M : MM) : Option (MM) :=
  (gfi 7 4 x0 M).bind fun v1 =>
  (pfi 7 4 x0 (v1 + 1) M).bind fun M1 =>
  some M1
def f_X7_send (x0 x1 x2 x3 x4 : Int) (M : MM) : Option (MM) :=
  if w32 x3 = 0 then
    (gfi 7 2 x0 M).bind fun v1 =>
    if w32 v1 = w32 400 then
      j_X7_send_31 x0 M
    else
      ck 7 x0 M <| (f_X7_draw x0 M).bind fun r1 =>
      (rmi r1.1 1000).bind fun v2 =>
      (gfr 7 0 x0 r1.2).bind fun v3 =>
      (lai v3 0 r1.2).bind fun v4 =>
      if w32 v2 < w32 v4 then
        j_X7_send_31 x0 r1.2
      else
        ck 7 x0 r1.2 <| (f_X7_arrival x0 r1.2).bind fun r2 =>
        ck 7 x0 r2.2 <| (f_X7_fly x0 x1 x2 r2.1 x4 r2.2).bind fun M1 =>
        ck 7 x0 M1 <| (f_X7_draw x0 M1).bind fun r3 =>
        (rmi r3.1 1000).bind fun v5 =>
        (gfr 7 0 x0 r3.2).bind fun v6 =>
        (lai v6 3 r3.2).bind fun v7 =>
        if w32 v5 < w32 v7 then
          (gfi 7 2 x0 r3.2).bind fun v8 =>
          if w32 v8 = w32 400 then
            (gfi 7 4 x0 r3.2).bind fun v9 =>
            (pfi 7 4 x0 (v9 + 1) r3.2).bind fun M3 =>
            j_X7_send_107 M3
          else
            ck 7 x0 r3.2 <| (f_X7_arrival x0 r3.2).bind fun r4 =>
            ck 7 x0 r4.2 <| (f_X7_fly x0 x1 x2 r4.1 x4 r4.2).bind fun M2 =>
            j_X7_send_107 M2
        else
          some r3.2
  else
    j_X7_send_31 x0 M
theorem s_X7_send_107 {g : GG} {d : Nat} (hD : 4 ≤ d) {M : MM} {o : AV × MM} {P : (MM) → Prop} (r0 : ∀ r : MM, P r → o = ((9, 0), r)) {z : MM} (h : j_X7_send_107 M = some z) (hz : P z) : Sem g d YX7_send 107 [(9, 0), (9, 0), (9, 0), (9, 0), (9, 0)] [] M o := by
  delta j_X7_send_107 at h
  obtain rfl := r0 _ (some_P (P := fun r => P r) h hz)
  exact S_return dX7_send_107 rfl
theorem s_X7_send_31 {g : GG} {d : Nat} (hD : 4 ≤ d) {x0 : Int} {M : MM} {o : AV × MM} {P : (MM) → Prop} (r0 : ∀ r : MM, P r → o = ((9, 0), r)) {z : MM} (h : j_X7_send_31 x0 M = some z) (hz : P z) : Sem g d YX7_send 31 [(1, x0), (9, 0), (9, 0), (9, 0), (9, 0)] [] M o := by
  delta j_X7_send_31 at h
  refine S_aload_n (i := 0) dX7_send_31 rfl rfl ?_
  refine S_dup dX7_send_32 (Nat.le_of_ble_eq_true rfl) ?_
  refine P_gfi FLX7_66 rfl dX7_send_33 h (fun v1 h => ?_)
  refine S_iconst dX7_send_36 rfl ?_
  refine S_iadd dX7_send_37 ?_
  refine P_pfi FLX7_66 FPX7_66 rfl dX7_send_38 h (fun M1 h => ?_)
  obtain rfl := r0 _ (some_P (P := fun r => P r) h hz)
  exact S_return dX7_send_41 rfl
theorem s_X7_send_0 {g : GG} {d : Nat} (hD : 4 ≤ d) {x0 x1 x2 x3 x4 : Int} {M : MM} {o : AV × MM} {P : (MM) → Prop} (r0 : ∀ r : MM, P r → o = ((9, 0), r)) {z : MM} (h : f_X7_send x0 x1 x2 x3 x4 M = some z) (hz : P z) : Sem g d YX7_send 0 [(1, x0), (0, x1), (0, x2), (0, x3), (1, x4)] [] M o := by
  delta f_X7_send at h
  refine S_iload_n (i := 3) dX7_send_0 rfl rfl ?_
  refine P_if_ne (tgt := 31) dX7_send_1 rfl h (fun h => ?_) (fun h => ?_)
  · refine S_weak (ls' := [(1, x0), (9, 0), (9, 0), (9, 0), (9, 0)]) ⟨Or.inr rfl, ⟨Or.inl rfl, ⟨Or.inl rfl, ⟨Or.inl rfl, ⟨Or.inl rfl, trivial⟩⟩⟩⟩⟩ ?_
    exact s_X7_send_31 hD r0 h hz
  · refine S_aload_n (i := 0) dX7_send_4 rfl rfl ?_
    refine P_gfi FLX7_38 rfl dX7_send_5 h (fun v1 h => ?_)
    refine S_sipush (z := 400) dX7_send_8 rfl ?_
    refine P_icmp_eq (tgt := 31) dX7_send_11 rfl h (fun h => ?_) (fun h => ?_)
    · refine S_weak (ls' := [(1, x0), (9, 0), (9, 0), (9, 0), (9, 0)]) ⟨Or.inr rfl, ⟨Or.inl rfl, ⟨Or.inl rfl, ⟨Or.inl rfl, ⟨Or.inl rfl, trivial⟩⟩⟩⟩⟩ ?_
      exact s_X7_send_31 hD r0 h hz
    · refine S_aload_n (i := 0) dX7_send_14 rfl rfl ?_
      refine P_invVe 0 [] [] CVX7_draw MLX7_62 dX7_send_15 rfl rfl rfl rfl rfl (by omega) h (fun r h => F_X7_draw (by omega) h) (fun r1 h => ?_)
      refine S_sipush (z := 1000) dX7_send_18 rfl ?_
      refine P_rmi dX7_send_21 h (fun v2 h => ?_)
      refine S_aload_n (i := 0) dX7_send_22 rfl rfl ?_
      refine P_gfr FLX7_9 rfl dX7_send_23 h (fun v3 h => ?_)
      refine S_iconst dX7_send_26 rfl ?_
      refine P_lai dX7_send_27 h (fun v4 h => ?_)
      refine P_icmp_ge (tgt := 42) dX7_send_28 rfl h (fun h => ?_) (fun h => ?_)
      · refine S_aload_n (i := 0) dX7_send_42 rfl rfl ?_
        refine S_iload_n (i := 1) dX7_send_43 rfl rfl ?_
        refine S_iload_n (i := 2) dX7_send_44 rfl rfl ?_
        refine S_aload_n (i := 0) dX7_send_45 rfl rfl ?_
        refine P_invVe 0 [] [(0, x2), (0, x1), (1, x0)] CVX7_arrival MLX7_69 dX7_send_46 rfl rfl rfl rfl rfl (by omega) h (fun r h => F_X7_arrival (by omega) h) (fun r2 h => ?_)
        refine S_aload dX7_send_49 rfl ?_
        refine P_invVm' [(0, x1), (0, x2), (0, r2.1), (1, x4)] [] CVX7_fly MLX7_72 dX7_send_51 rfl rfl rfl rfl (by omega) h (fun r h => F_X7_fly (by omega) h) (fun M1 h => ?_)
        refine S_aload_n (i := 0) dX7_send_54 rfl rfl ?_
        refine P_invVe 0 [] [] CVX7_draw MLX7_62 dX7_send_55 rfl rfl rfl rfl rfl (by omega) h (fun r h => F_X7_draw (by omega) h) (fun r3 h => ?_)
        refine S_sipush (z := 1000) dX7_send_58 rfl ?_
        refine P_rmi dX7_send_61 h (fun v5 h => ?_)
        refine S_aload_n (i := 0) dX7_send_62 rfl rfl ?_
        refine P_gfr FLX7_9 rfl dX7_send_63 h (fun v6 h => ?_)
        refine S_iconst dX7_send_66 rfl ?_
        refine P_lai dX7_send_67 h (fun v7 h => ?_)
        refine P_icmp_lt (tgt := 72) dX7_send_68 rfl h (fun h => ?_) (fun h => ?_)
        · refine S_aload_n (i := 0) dX7_send_72 rfl rfl ?_
          refine P_gfi FLX7_38 rfl dX7_send_73 h (fun v8 h => ?_)
          refine S_sipush (z := 400) dX7_send_76 rfl ?_
          refine P_icmp_ne (tgt := 95) dX7_send_79 rfl h (fun h => ?_) (fun h => ?_)
          · refine S_aload_n (i := 0) dX7_send_95 rfl rfl ?_
            refine S_iload_n (i := 1) dX7_send_96 rfl rfl ?_
            refine S_iload_n (i := 2) dX7_send_97 rfl rfl ?_
            refine S_aload_n (i := 0) dX7_send_98 rfl rfl ?_
            refine P_invVe 0 [] [(0, x2), (0, x1), (1, x0)] CVX7_arrival MLX7_69 dX7_send_99 rfl rfl rfl rfl rfl (by omega) h (fun r h => F_X7_arrival (by omega) h) (fun r4 h => ?_)
            refine S_aload dX7_send_102 rfl ?_
            refine P_invVm' [(0, x1), (0, x2), (0, r4.1), (1, x4)] [] CVX7_fly MLX7_72 dX7_send_104 rfl rfl rfl rfl (by omega) h (fun r h => F_X7_fly (by omega) h) (fun M2 h => ?_)
            refine S_weak (ls' := [(9, 0), (9, 0), (9, 0), (9, 0), (9, 0)]) ⟨Or.inl rfl, ⟨Or.inl rfl, ⟨Or.inl rfl, ⟨Or.inl rfl, ⟨Or.inl rfl, trivial⟩⟩⟩⟩⟩ ?_
            exact s_X7_send_107 hD r0 h hz
          · refine S_aload_n (i := 0) dX7_send_82 rfl rfl ?_
            refine S_dup dX7_send_83 (Nat.le_of_ble_eq_true rfl) ?_
            refine P_gfi FLX7_66 rfl dX7_send_84 h (fun v9 h => ?_)
            refine S_iconst dX7_send_87 rfl ?_
            refine S_iadd dX7_send_88 ?_
            refine P_pfi FLX7_66 FPX7_66 rfl dX7_send_89 h (fun M3 h => ?_)
            refine S_goto (tgt := 107) dX7_send_92 rfl ?_
            refine S_weak (ls' := [(9, 0), (9, 0), (9, 0), (9, 0), (9, 0)]) ⟨Or.inl rfl, ⟨Or.inl rfl, ⟨Or.inl rfl, ⟨Or.inl rfl, ⟨Or.inl rfl, trivial⟩⟩⟩⟩⟩ ?_
            exact s_X7_send_107 hD r0 h hz
        · obtain rfl := r0 _ (some_P (P := fun r => P r) h hz)
          exact S_return dX7_send_71 rfl
      · refine S_weak (ls' := [(1, x0), (9, 0), (9, 0), (9, 0), (9, 0)]) ⟨Or.inr rfl, ⟨Or.inl rfl, ⟨Or.inl rfl, ⟨Or.inl rfl, ⟨Or.inl rfl, trivial⟩⟩⟩⟩⟩ ?_
        exact s_X7_send_31 hD r0 h hz
theorem F_X7_send {g : GG} {d : Nat} (hD : 4 ≤ d) {x0 x1 x2 x3 x4 : Int} {M : MM} {r : MM} (h : f_X7_send x0 x1 x2 x3 x4 M = some r) : Sem g d YX7_send 0 (ini YX7_send [(1, x0), (0, x1), (0, x2), (0, x3), (1, x4)]) [] M ((9, 0), r) := by
  change Sem g d YX7_send 0 [(1, x0), (0, x1), (0, x2), (0, x3), (1, x4)] [] M ((9, 0), r)
  exact s_X7_send_0 hD (P := fun x => x = r) (fun q e => by rw [e]) h rfl
/-! PeerSearch$Peer.send(ILPeerSearch$Packet;)V -/
theorem dX17_send_0 : decode cX17_send 0 = .ok (.aload_n 0, 1) := by decide +kernel
theorem dX17_send_1 : decode cX17_send 1 = .ok (.dup, 1) := by decide +kernel
theorem dX17_send_2 : decode cX17_send 2 = .ok (.getfield 108, 3) := by decide +kernel
theorem dX17_send_5 : decode cX17_send 5 = .ok (.iconst 1, 1) := by decide +kernel
theorem dX17_send_6 : decode cX17_send 6 = .ok (.iadd, 1) := by decide +kernel
theorem dX17_send_7 : decode cX17_send 7 = .ok (.putfield 108, 3) := by decide +kernel
theorem dX17_send_10 : decode cX17_send 10 = .ok (.aload_n 0, 1) := by decide +kernel
theorem dX17_send_11 : decode cX17_send 11 = .ok (.getfield 42, 3) := by decide +kernel
theorem dX17_send_14 : decode cX17_send 14 = .ok (.getfield 83, 3) := by decide +kernel
theorem dX17_send_17 : decode cX17_send 17 = .ok (.aload_n 0, 1) := by decide +kernel
theorem dX17_send_18 : decode cX17_send 18 = .ok (.getfield 46, 3) := by decide +kernel
theorem dX17_send_21 : decode cX17_send 21 = .ok (.iload_n 1, 1) := by decide +kernel
theorem dX17_send_22 : decode cX17_send 22 = .ok (.aload_n 0, 1) := by decide +kernel
theorem dX17_send_23 : decode cX17_send 23 = .ok (.getfield 42, 3) := by decide +kernel
theorem dX17_send_26 : decode cX17_send 26 = .ok (.aload_n 0, 1) := by decide +kernel
theorem dX17_send_27 : decode cX17_send 27 = .ok (.getfield 46, 3) := by decide +kernel
theorem dX17_send_30 : decode cX17_send 30 = .ok (.iload_n 1, 1) := by decide +kernel
theorem dX17_send_31 : decode cX17_send 31 = .ok (.invokevirtual 111, 3) := by decide +kernel
theorem dX17_send_34 : decode cX17_send 34 = .ok (.aload_n 2, 1) := by decide +kernel
theorem dX17_send_35 : decode cX17_send 35 = .ok (.invokevirtual 115, 3) := by decide +kernel
theorem dX17_send_38 : decode cX17_send 38 = .ok (.return_, 1) := by decide +kernel
def f_X17_send (x0 x1 x2 : Int) (M : MM) : Option (MM) :=
  (gfi 17 14 x0 M).bind fun v1 =>
  (pfi 17 14 x0 (v1 + 1) M).bind fun M1 =>
  (gfr 17 0 x0 M1).bind fun v2 =>
  (gfr 6 2 v2 M1).bind fun v3 =>
  (gfi 17 1 x0 M1).bind fun v4 =>
  (gfr 17 0 x0 M1).bind fun v5 =>
  (gfi 17 1 x0 M1).bind fun v6 =>
  ck 6 v5 M1 <| (f_X6_areApart v5 v6 x1 M1).bind fun v7 =>
  ck 7 v3 M1 <| (f_X7_send v3 v4 x1 v7 x2 M1).bind fun M2 =>
  some M2
theorem s_X17_send_0 {g : GG} {d : Nat} (hD : 5 ≤ d) {x0 x1 x2 : Int} {M : MM} {o : AV × MM} {P : (MM) → Prop} (r0 : ∀ r : MM, P r → o = ((9, 0), r)) {z : MM} (h : f_X17_send x0 x1 x2 M = some z) (hz : P z) : Sem g d YX17_send 0 [(1, x0), (0, x1), (1, x2)] [] M o := by
  delta f_X17_send at h
  refine S_aload_n (i := 0) dX17_send_0 rfl rfl ?_
  refine S_dup dX17_send_1 (Nat.le_of_ble_eq_true rfl) ?_
  refine P_gfi FLX17_108 rfl dX17_send_2 h (fun v1 h => ?_)
  refine S_iconst dX17_send_5 rfl ?_
  refine S_iadd dX17_send_6 ?_
  refine P_pfi FLX17_108 FPX17_108 rfl dX17_send_7 h (fun M1 h => ?_)
  refine S_aload_n (i := 0) dX17_send_10 rfl rfl ?_
  refine P_gfr FLX17_42 rfl dX17_send_11 h (fun v2 h => ?_)
  refine P_gfr FLX17_83 rfl dX17_send_14 h (fun v3 h => ?_)
  refine S_aload_n (i := 0) dX17_send_17 rfl rfl ?_
  refine P_gfi FLX17_46 rfl dX17_send_18 h (fun v4 h => ?_)
  refine S_iload_n (i := 1) dX17_send_21 rfl rfl ?_
  refine S_aload_n (i := 0) dX17_send_22 rfl rfl ?_
  refine P_gfr FLX17_42 rfl dX17_send_23 h (fun v5 h => ?_)
  refine S_aload_n (i := 0) dX17_send_26 rfl rfl ?_
  refine P_gfi FLX17_46 rfl dX17_send_27 h (fun v6 h => ?_)
  refine S_iload_n (i := 1) dX17_send_30 rfl rfl ?_
  refine P_invVp 0 [(0, v6), (0, x1)] [(0, x1), (0, v4), (1, v3)] CVX6_areApart MLX17_111 dX17_send_31 rfl rfl rfl rfl rfl (by omega) h (fun r h => F_X6_areApart (by omega) h) (fun v7 h => ?_)
  refine S_aload_n (i := 2) dX17_send_34 rfl rfl ?_
  refine P_invVm' [(0, v4), (0, x1), (0, v7), (1, x2)] [] CVX7_send MLX17_115 dX17_send_35 rfl rfl rfl rfl (by omega) h (fun r h => F_X7_send (by omega) h) (fun M2 h => ?_)
  obtain rfl := r0 _ (some_P (P := fun r => P r) h hz)
  exact S_return dX17_send_38 rfl
theorem F_X17_send {g : GG} {d : Nat} (hD : 5 ≤ d) {x0 x1 x2 : Int} {M : MM} {r : MM} (h : f_X17_send x0 x1 x2 M = some r) : Sem g d YX17_send 0 (ini YX17_send [(1, x0), (0, x1), (1, x2)]) [] M ((9, 0), r) := by
  change Sem g d YX17_send 0 [(1, x0), (0, x1), (1, x2)] [] M ((9, 0), r)
  exact s_X17_send_0 hD (P := fun x => x = r) (fun q e => by rw [e]) h rfl
/-! PeerSearch$Peer.sendAgain(LPeerSearch$Request;)V -/
theorem dX17_sendAgain_0 : decode cX17_sendAgain 0 = .ok (.aload_n 1, 1) := by decide +kernel
theorem dX17_sendAgain_1 : decode cX17_sendAgain 1 = .ok (.dup, 1) := by decide +kernel
theorem dX17_sendAgain_2 : decode cX17_sendAgain 2 = .ok (.getfield 166, 3) := by decide +kernel
theorem dX17_sendAgain_5 : decode cX17_sendAgain 5 = .ok (.iconst 1, 1) := by decide +kernel
theorem dX17_sendAgain_6 : decode cX17_sendAgain 6 = .ok (.iadd, 1) := by decide +kernel
theorem dX17_sendAgain_7 : decode cX17_sendAgain 7 = .ok (.putfield 166, 3) := by decide +kernel
theorem dX17_sendAgain_10 : decode cX17_sendAgain 10 = .ok (.aload_n 1, 1) := by decide +kernel
theorem dX17_sendAgain_11 : decode cX17_sendAgain 11 = .ok (.aload_n 0, 1) := by decide +kernel
theorem dX17_sendAgain_12 : decode cX17_sendAgain 12 = .ok (.getfield 42, 3) := by decide +kernel
theorem dX17_sendAgain_15 : decode cX17_sendAgain 15 = .ok (.getfield 83, 3) := by decide +kernel
theorem dX17_sendAgain_18 : decode cX17_sendAgain 18 = .ok (.getfield 87, 3) := by decide +kernel
theorem dX17_sendAgain_21 : decode cX17_sendAgain 21 = .ok (.aload_n 0, 1) := by decide +kernel
theorem dX17_sendAgain_22 : decode cX17_sendAgain 22 = .ok (.getfield 42, 3) := by decide +kernel
theorem dX17_sendAgain_25 : decode cX17_sendAgain 25 = .ok (.getfield 83, 3) := by decide +kernel
theorem dX17_sendAgain_28 : decode cX17_sendAgain 28 = .ok (.iconst 4, 1) := by decide +kernel
theorem dX17_sendAgain_29 : decode cX17_sendAgain 29 = .ok (.invokevirtual 171, 3) := by decide +kernel
theorem dX17_sendAgain_32 : decode cX17_sendAgain 32 = .ok (.iadd, 1) := by decide +kernel
theorem dX17_sendAgain_33 : decode cX17_sendAgain 33 = .ok (.putfield 175, 3) := by decide +kernel
theorem dX17_sendAgain_36 : decode cX17_sendAgain 36 = .ok (.aload_n 0, 1) := by decide +kernel
theorem dX17_sendAgain_37 : decode cX17_sendAgain 37 = .ok (.aload_n 1, 1) := by decide +kernel
theorem dX17_sendAgain_38 : decode cX17_sendAgain 38 = .ok (.getfield 132, 3) := by decide +kernel
theorem dX17_sendAgain_41 : decode cX17_sendAgain 41 = .ok (.aload_n 1, 1) := by decide +kernel
theorem dX17_sendAgain_42 : decode cX17_sendAgain 42 = .ok (.getfield 135, 3) := by decide +kernel
theorem dX17_sendAgain_45 : decode cX17_sendAgain 45 = .ok (.invokevirtual 178, 3) := by decide +kernel
theorem dX17_sendAgain_48 : decode cX17_sendAgain 48 = .ok (.return_, 1) := by decide +kernel
def f_X17_sendAgain (x0 x1 : Int) (M : MM) : Option (MM) :=
  (gfi 24 4 x1 M).bind fun v1 =>
  (pfi 24 4 x1 (v1 + 1) M).bind fun M1 =>
  (gfr 17 0 x0 M1).bind fun v2 =>
  (gfr 6 2 v2 M1).bind fun v3 =>
  (gfi 7 3 v3 M1).bind fun v4 =>
  (gfr 17 0 x0 M1).bind fun v5 =>
  (gfr 6 2 v5 M1).bind fun v6 =>
  ck 7 v6 M1 <| (f_X7_setting v6 4 M1).bind fun v7 =>
  (pfi 24 3 x1 (v4 + v7) M1).bind fun M2 =>
  (gfi 24 1 x1 M2).bind fun v8 =>
  (gfr 24 8 x1 M2).bind fun v9 =>
  ck 17 x0 M2 <| (f_X17_send x0 v8 v9 M2).bind fun M3 =>
  some M3
theorem s_X17_sendAgain_0 {g : GG} {d : Nat} (hD : 6 ≤ d) {x0 x1 : Int} {M : MM} {o : AV × MM} {P : (MM) → Prop} (r0 : ∀ r : MM, P r → o = ((9, 0), r)) {z : MM} (h : f_X17_sendAgain x0 x1 M = some z) (hz : P z) : Sem g d YX17_sendAgain 0 [(1, x0), (1, x1)] [] M o := by
  delta f_X17_sendAgain at h
  refine S_aload_n (i := 1) dX17_sendAgain_0 rfl rfl ?_
  refine S_dup dX17_sendAgain_1 (Nat.le_of_ble_eq_true rfl) ?_
  refine P_gfi FLX17_166 rfl dX17_sendAgain_2 h (fun v1 h => ?_)
  refine S_iconst dX17_sendAgain_5 rfl ?_
  refine S_iadd dX17_sendAgain_6 ?_
  refine P_pfi FLX17_166 FPX17_166 rfl dX17_sendAgain_7 h (fun M1 h => ?_)
  refine S_aload_n (i := 1) dX17_sendAgain_10 rfl rfl ?_
  refine S_aload_n (i := 0) dX17_sendAgain_11 rfl rfl ?_
  refine P_gfr FLX17_42 rfl dX17_sendAgain_12 h (fun v2 h => ?_)
  refine P_gfr FLX17_83 rfl dX17_sendAgain_15 h (fun v3 h => ?_)
  refine P_gfi FLX17_87 rfl dX17_sendAgain_18 h (fun v4 h => ?_)
  refine S_aload_n (i := 0) dX17_sendAgain_21 rfl rfl ?_
  refine P_gfr FLX17_42 rfl dX17_sendAgain_22 h (fun v5 h => ?_)
  refine P_gfr FLX17_83 rfl dX17_sendAgain_25 h (fun v6 h => ?_)
  refine S_iconst dX17_sendAgain_28 rfl ?_
  refine P_invVp 0 [(0, 4)] [(0, v4), (1, x1)] CVX7_setting MLX17_171 dX17_sendAgain_29 rfl rfl rfl rfl rfl (by omega) h (fun r h => F_X7_setting (by omega) h) (fun v7 h => ?_)
  refine S_iadd dX17_sendAgain_32 ?_
  refine P_pfi FLX17_175 FPX17_175 rfl dX17_sendAgain_33 h (fun M2 h => ?_)
  refine S_aload_n (i := 0) dX17_sendAgain_36 rfl rfl ?_
  refine S_aload_n (i := 1) dX17_sendAgain_37 rfl rfl ?_
  refine P_gfi FLX17_132 rfl dX17_sendAgain_38 h (fun v8 h => ?_)
  refine S_aload_n (i := 1) dX17_sendAgain_41 rfl rfl ?_
  refine P_gfr FLX17_135 rfl dX17_sendAgain_42 h (fun v9 h => ?_)
  refine P_invVm' [(0, v8), (1, v9)] [] CVX17_send MLX17_178 dX17_sendAgain_45 rfl rfl rfl rfl (by omega) h (fun r h => F_X17_send (by omega) h) (fun M3 h => ?_)
  obtain rfl := r0 _ (some_P (P := fun r => P r) h hz)
  exact S_return dX17_sendAgain_48 rfl
theorem F_X17_sendAgain {g : GG} {d : Nat} (hD : 6 ≤ d) {x0 x1 : Int} {M : MM} {r : MM} (h : f_X17_sendAgain x0 x1 M = some r) : Sem g d YX17_sendAgain 0 (ini YX17_sendAgain [(1, x0), (1, x1)]) [] M ((9, 0), r) := by
  change Sem g d YX17_sendAgain 0 [(1, x0), (1, x1)] [] M ((9, 0), r)
  exact s_X17_sendAgain_0 hD (P := fun x => x = r) (fun q e => by rw [e]) h rfl
/-! PeerSearch$Request.<init>()V -/
theorem dX24_init_0 : decode cX24_init 0 = .ok (.aload_n 0, 1) := by decide +kernel
theorem dX24_init_1 : decode cX24_init 1 = .ok (.invokespecial 1, 3) := by decide +kernel
theorem dX24_init_4 : decode cX24_init 4 = .ok (.aload_n 0, 1) := by decide +kernel
theorem dX24_init_5 : decode cX24_init 5 = .ok (.new 7, 3) := by decide +kernel
theorem dX24_init_8 : decode cX24_init 8 = .ok (.dup, 1) := by decide +kernel
theorem dX24_init_9 : decode cX24_init 9 = .ok (.invokespecial 9, 3) := by decide +kernel
theorem dX24_init_12 : decode cX24_init 12 = .ok (.putfield 10, 3) := by decide +kernel
theorem dX24_init_15 : decode cX24_init 15 = .ok (.aload_n 0, 1) := by decide +kernel
theorem dX24_init_16 : decode cX24_init 16 = .ok (.new 16, 3) := by decide +kernel
theorem dX24_init_19 : decode cX24_init 19 = .ok (.dup, 1) := by decide +kernel
theorem dX24_init_20 : decode cX24_init 20 = .ok (.invokespecial 18, 3) := by decide +kernel
theorem dX24_init_23 : decode cX24_init 23 = .ok (.putfield 19, 3) := by decide +kernel
theorem dX24_init_26 : decode cX24_init 26 = .ok (.return_, 1) := by decide +kernel
def f_X24_init (x0 : Int) (M : MM) : Option (MM) :=
  nn x0 <|
  (nob 3 1 34 M).bind fun r1 =>
  nn r1.1 <| (f_X3_init r1.1 r1.2).bind fun M1 =>
  (pfr 24 7 x0 r1.1 M1).bind fun M2 =>
  (nob 4 2 35 M2).bind fun r2 =>
  nn r2.1 <| (f_X4_init r2.1 r2.2).bind fun M3 =>
  (pfr 24 8 x0 r2.1 M3).bind fun M4 =>
  some M4
theorem s_X24_init_0 {g : GG} {d : Nat} (hD : 2 ≤ d) {x0 : Int} {M : MM} {o : AV × MM} {P : (MM) → Prop} (r0 : ∀ r : MM, P r → o = ((9, 0), r)) {z : MM} (h : f_X24_init x0 M = some z) (hz : P z) : Sem g d YX24_init 0 [(1, x0)] [] M o := by
  delta f_X24_init at h
  refine S_aload_n (i := 0) dX24_init_0 rfl rfl ?_
  refine P_obj q1076 dX24_init_1 rfl (by omega) h (fun h => ?_)
  refine S_aload_n (i := 0) dX24_init_4 rfl rfl ?_
  refine P_nob NLX24_7 rfl dX24_init_5 h (fun r1 h => ?_)
  refine S_dup dX24_init_8 (Nat.le_of_ble_eq_true rfl) ?_
  refine P_invI' [] [(1, r1.1), (1, x0)] CIX3_init MLX24_9 dX24_init_9 rfl rfl rfl rfl (by omega) h (fun r h => F_X3_init (by omega) h) (fun M1 h => ?_)
  refine P_pfr FLX24_10 FPX24_10 (Or.inl ⟨_, rfl⟩) rfl dX24_init_12 h (fun M2 h => ?_)
  refine S_aload_n (i := 0) dX24_init_15 rfl rfl ?_
  refine P_nob NLX24_16 rfl dX24_init_16 h (fun r2 h => ?_)
  refine S_dup dX24_init_19 (Nat.le_of_ble_eq_true rfl) ?_
  refine P_invI' [] [(1, r2.1), (1, x0)] CIX4_init MLX24_18 dX24_init_20 rfl rfl rfl rfl (by omega) h (fun r h => F_X4_init (by omega) h) (fun M3 h => ?_)
  refine P_pfr FLX24_19 FPX24_19 (Or.inl ⟨_, rfl⟩) rfl dX24_init_23 h (fun M4 h => ?_)
  obtain rfl := r0 _ (some_P (P := fun r => P r) h hz)
  exact S_return dX24_init_26 rfl
theorem F_X24_init {g : GG} {d : Nat} (hD : 2 ≤ d) {x0 : Int} {M : MM} {r : MM} (h : f_X24_init x0 M = some r) : Sem g d YX24_init 0 (ini YX24_init [(1, x0)]) [] M ((9, 0), r) := by
  change Sem g d YX24_init 0 [(1, x0)] [] M ((9, 0), r)
  exact s_X24_init_0 hD (P := fun x => x = r) (fun q e => by rw [e]) h rfl
/-! PeerSearch$Peer.ask(LPeerSearch$Key;ILPeerSearch$Work;ILPeerSearch$Bucket;)Z -/
theorem dX17_ask_0 : decode cX17_ask 0 = .ok (.aload_n 0, 1) := by decide +kernel
theorem dX17_ask_1 : decode cX17_ask 1 = .ok (.getfield 101, 3) := by decide +kernel
theorem dX17_ask_4 : decode cX17_ask 4 = .ok (.bipush 40, 2) := by decide +kernel
theorem dX17_ask_6 : decode cX17_ask 6 = .ok (.if_icmp .ne 5, 3) := by decide +kernel
theorem dX17_ask_9 : decode cX17_ask 9 = .ok (.iconst 0, 1) := by decide +kernel
theorem dX17_ask_10 : decode cX17_ask 10 = .ok (.ireturn, 1) := by decide +kernel
theorem dX17_ask_11 : decode cX17_ask 11 = .ok (.aload_n 0, 1) := by decide +kernel
theorem dX17_ask_12 : decode cX17_ask 12 = .ok (.getfield 34, 3) := by decide +kernel
theorem dX17_ask_15 : decode cX17_ask 15 = .ok (.aload_n 0, 1) := by decide +kernel
theorem dX17_ask_16 : decode cX17_ask 16 = .ok (.getfield 101, 3) := by decide +kernel
theorem dX17_ask_19 : decode cX17_ask 19 = .ok (.aaload, 1) := by decide +kernel
theorem dX17_ask_20 : decode cX17_ask 20 = .ok (.ifnonnull 19, 3) := by decide +kernel
theorem dX17_ask_23 : decode cX17_ask 23 = .ok (.aload_n 0, 1) := by decide +kernel
theorem dX17_ask_24 : decode cX17_ask 24 = .ok (.getfield 34, 3) := by decide +kernel
theorem dX17_ask_27 : decode cX17_ask 27 = .ok (.aload_n 0, 1) := by decide +kernel
theorem dX17_ask_28 : decode cX17_ask 28 = .ok (.getfield 101, 3) := by decide +kernel
theorem dX17_ask_31 : decode cX17_ask 31 = .ok (.new 32, 3) := by decide +kernel
theorem dX17_ask_34 : decode cX17_ask 34 = .ok (.dup, 1) := by decide +kernel
theorem dX17_ask_35 : decode cX17_ask 35 = .ok (.invokespecial 129, 3) := by decide +kernel
theorem dX17_ask_38 : decode cX17_ask 38 = .ok (.aastore, 1) := by decide +kernel
theorem dX17_ask_39 : decode cX17_ask 39 = .ok (.aload_n 0, 1) := by decide +kernel
theorem dX17_ask_40 : decode cX17_ask 40 = .ok (.getfield 34, 3) := by decide +kernel
theorem dX17_ask_43 : decode cX17_ask 43 = .ok (.aload_n 0, 1) := by decide +kernel
theorem dX17_ask_44 : decode cX17_ask 44 = .ok (.getfield 101, 3) := by decide +kernel
theorem dX17_ask_47 : decode cX17_ask 47 = .ok (.aaload, 1) := by decide +kernel
theorem dX17_ask_48 : decode cX17_ask 48 = .ok (.astore 6, 2) := by decide +kernel
theorem dX17_ask_50 : decode cX17_ask 50 = .ok (.aload_n 0, 1) := by decide +kernel
theorem dX17_ask_51 : decode cX17_ask 51 = .ok (.dup, 1) := by decide +kernel
theorem dX17_ask_52 : decode cX17_ask 52 = .ok (.getfield 101, 3) := by decide +kernel
theorem dX17_ask_55 : decode cX17_ask 55 = .ok (.iconst 1, 1) := by decide +kernel
theorem dX17_ask_56 : decode cX17_ask 56 = .ok (.iadd, 1) := by decide +kernel
theorem dX17_ask_57 : decode cX17_ask 57 = .ok (.putfield 101, 3) := by decide +kernel
theorem dX17_ask_60 : decode cX17_ask 60 = .ok (.aload 6, 2) := by decide +kernel
theorem dX17_ask_62 : decode cX17_ask 62 = .ok (.aload_n 0, 1) := by decide +kernel
theorem dX17_ask_63 : decode cX17_ask 63 = .ok (.getfield 38, 3) := by decide +kernel
theorem dX17_ask_66 : decode cX17_ask 66 = .ok (.putfield 130, 3) := by decide +kernel
theorem dX17_ask_69 : decode cX17_ask 69 = .ok (.aload_n 0, 1) := by decide +kernel
theorem dX17_ask_70 : decode cX17_ask 70 = .ok (.dup, 1) := by decide +kernel
theorem dX17_ask_71 : decode cX17_ask 71 = .ok (.getfield 38, 3) := by decide +kernel
theorem dX17_ask_74 : decode cX17_ask 74 = .ok (.iconst 1, 1) := by decide +kernel
theorem dX17_ask_75 : decode cX17_ask 75 = .ok (.iadd, 1) := by decide +kernel
theorem dX17_ask_76 : decode cX17_ask 76 = .ok (.putfield 38, 3) := by decide +kernel
theorem dX17_ask_79 : decode cX17_ask 79 = .ok (.aload 6, 2) := by decide +kernel
theorem dX17_ask_81 : decode cX17_ask 81 = .ok (.getfield 131, 3) := by decide +kernel
theorem dX17_ask_84 : decode cX17_ask 84 = .ok (.aload_n 1, 1) := by decide +kernel
theorem dX17_ask_85 : decode cX17_ask 85 = .ok (.invokevirtual 49, 3) := by decide +kernel
theorem dX17_ask_88 : decode cX17_ask 88 = .ok (.aload 6, 2) := by decide +kernel
theorem dX17_ask_90 : decode cX17_ask 90 = .ok (.iload_n 2, 1) := by decide +kernel
theorem dX17_ask_91 : decode cX17_ask 91 = .ok (.putfield 132, 3) := by decide +kernel
theorem dX17_ask_94 : decode cX17_ask 94 = .ok (.aload 6, 2) := by decide +kernel
theorem dX17_ask_96 : decode cX17_ask 96 = .ok (.getfield 135, 3) := by decide +kernel
theorem dX17_ask_99 : decode cX17_ask 99 = .ok (.aload_n 0, 1) := by decide +kernel
theorem dX17_ask_100 : decode cX17_ask 100 = .ok (.getfield 42, 3) := by decide +kernel
theorem dX17_ask_103 : decode cX17_ask 103 = .ok (.getfield 119, 3) := by decide +kernel
theorem dX17_ask_106 : decode cX17_ask 106 = .ok (.invokevirtual 138, 3) := by decide +kernel
theorem dX17_ask_109 : decode cX17_ask 109 = .ok (.iconst 0, 1) := by decide +kernel
theorem dX17_ask_110 : decode cX17_ask 110 = .ok (.istore 7, 2) := by decide +kernel
theorem dX17_ask_112 : decode cX17_ask 112 = .ok (.iload 7, 2) := by decide +kernel
theorem dX17_ask_114 : decode cX17_ask 114 = .ok (.iconst 4, 1) := by decide +kernel
theorem dX17_ask_115 : decode cX17_ask 115 = .ok (.if_icmp .ge 37, 3) := by decide +kernel
theorem dX17_ask_118 : decode cX17_ask 118 = .ok (.aload 6, 2) := by decide +kernel
theorem dX17_ask_120 : decode cX17_ask 120 = .ok (.getfield 135, 3) := by decide +kernel
theorem dX17_ask_123 : decode cX17_ask 123 = .ok (.getfield 142, 3) := by decide +kernel
theorem dX17_ask_126 : decode cX17_ask 126 = .ok (.iconst 1, 1) := by decide +kernel
theorem dX17_ask_127 : decode cX17_ask 127 = .ok (.iload 7, 2) := by decide +kernel
theorem dX17_ask_129 : decode cX17_ask 129 = .ok (.iadd, 1) := by decide +kernel
theorem dX17_ask_130 : decode cX17_ask 130 = .ok (.aload 6, 2) := by decide +kernel
theorem dX17_ask_132 : decode cX17_ask 132 = .ok (.getfield 130, 3) := by decide +kernel
theorem dX17_ask_135 : decode cX17_ask 135 = .ok (.bipush 24, 2) := by decide +kernel
theorem dX17_ask_137 : decode cX17_ask 137 = .ok (.bipush 8, 2) := by decide +kernel
theorem dX17_ask_139 : decode cX17_ask 139 = .ok (.iload 7, 2) := by decide +kernel
theorem dX17_ask_141 : decode cX17_ask 141 = .ok (.imul, 1) := by decide +kernel
theorem dX17_ask_142 : decode cX17_ask 142 = .ok (.isub, 1) := by decide +kernel
theorem dX17_ask_143 : decode cX17_ask 143 = .ok (.iushr, 1) := by decide +kernel
theorem dX17_ask_144 : decode cX17_ask 144 = .ok (.i2b, 1) := by decide +kernel
theorem dX17_ask_145 : decode cX17_ask 145 = .ok (.bastore, 1) := by decide +kernel
theorem dX17_ask_146 : decode cX17_ask 146 = .ok (.iinc 7 1, 3) := by decide +kernel
theorem dX17_ask_149 : decode cX17_ask 149 = .ok (.goto (-37), 3) := by decide +kernel
theorem dX17_ask_152 : decode cX17_ask 152 = .ok (.aload 6, 2) := by decide +kernel
theorem dX17_ask_154 : decode cX17_ask 154 = .ok (.aload 6, 2) := by decide +kernel
theorem dX17_ask_156 : decode cX17_ask 156 = .ok (.getfield 135, 3) := by decide +kernel
theorem dX17_ask_159 : decode cX17_ask 159 = .ok (.invokevirtual 146, 3) := by decide +kernel
theorem dX17_ask_162 : decode cX17_ask 162 = .ok (.putfield 150, 3) := by decide +kernel
theorem dX17_ask_165 : decode cX17_ask 165 = .ok (.aload 6, 2) := by decide +kernel
theorem dX17_ask_167 : decode cX17_ask 167 = .ok (.aload_n 3, 1) := by decide +kernel
theorem dX17_ask_168 : decode cX17_ask 168 = .ok (.putfield 152, 3) := by decide +kernel
theorem dX17_ask_171 : decode cX17_ask 171 = .ok (.aload 6, 2) := by decide +kernel
theorem dX17_ask_173 : decode cX17_ask 173 = .ok (.aload_n 3, 1) := by decide +kernel
theorem dX17_ask_174 : decode cX17_ask 174 = .ok (.ifnonnull 7, 3) := by decide +kernel
theorem dX17_ask_177 : decode cX17_ask 177 = .ok (.iconst 0, 1) := by decide +kernel
theorem dX17_ask_178 : decode cX17_ask 178 = .ok (.goto 7, 3) := by decide +kernel
theorem dX17_ask_181 : decode cX17_ask 181 = .ok (.aload_n 3, 1) := by decide +kernel
theorem dX17_ask_182 : decode cX17_ask 182 = .ok (.getfield 155, 3) := by decide +kernel
theorem dX17_ask_185 : decode cX17_ask 185 = .ok (.putfield 158, 3) := by decide +kernel
theorem dX17_ask_188 : decode cX17_ask 188 = .ok (.aload 6, 2) := by decide +kernel
theorem dX17_ask_190 : decode cX17_ask 190 = .ok (.iload 4, 2) := by decide +kernel
theorem dX17_ask_192 : decode cX17_ask 192 = .ok (.putfield 159, 3) := by decide +kernel
theorem dX17_ask_195 : decode cX17_ask 195 = .ok (.aload 6, 2) := by decide +kernel
theorem dX17_ask_197 : decode cX17_ask 197 = .ok (.aload 5, 2) := by decide +kernel
theorem dX17_ask_199 : decode cX17_ask 199 = .ok (.putfield 162, 3) := by decide +kernel
theorem dX17_ask_202 : decode cX17_ask 202 = .ok (.aload 6, 2) := by decide +kernel
theorem dX17_ask_204 : decode cX17_ask 204 = .ok (.iconst 0, 1) := by decide +kernel
theorem dX17_ask_205 : decode cX17_ask 205 = .ok (.putfield 166, 3) := by decide +kernel
theorem dX17_ask_208 : decode cX17_ask 208 = .ok (.aload_n 0, 1) := by decide +kernel
theorem dX17_ask_209 : decode cX17_ask 209 = .ok (.aload 6, 2) := by decide +kernel
theorem dX17_ask_211 : decode cX17_ask 211 = .ok (.invokevirtual 167, 3) := by decide +kernel
theorem dX17_ask_214 : decode cX17_ask 214 = .ok (.iconst 1, 1) := by decide +kernel
theorem dX17_ask_215 : decode cX17_ask 215 = .ok (.ireturn, 1) := by decide +kernel
def j_X17_ask_185 (x0 x4 x5 x6 y0 y1 : Int) (M : MM) : Option (Int × MM) :=
  (pfi 24 5 y0 y1 M).bind fun M1 =>
  (pfi 24 6 x6 x4 M1).bind fun M2 =>
  (pfr 24 10 x6 x5 M2).bind fun M3 =>
  (pfi 24 4 x6 0 M3).bind fun M4 =>
  ck 17 x0 M4 <| (f_X17_sendAgain x0 x6 M4).bind fun M5 =>
  some (1, M5)
def j_X17_ask_152 (x0 x3 x4 x5 x6 : Int) (M : MM) : Option (Int × MM) :=
  (gfr 24 8 x6 M).bind fun v1 =>
  ck 4 v1 M <| (f_X4_type v1 M).bind fun v2 =>
  (pfi 24 2 x6 v2 M).bind fun M1 =>
  (pfr 24 9 x6 x3 M1).bind fun M2 =>
  if x3 = -1 then
    j_X17_ask_185 x0 x4 x5 x6 x6 0 M2
  else
    (gfi 11 5 x3 M2).bind fun v3 =>
    j_X17_ask_185 x0 x4 x5 x6 x6 v3 M2
def b_X17_ask_112 (x0 x3 x4 x5 x6 x7 : Int) (M : MM) : Option ((Int × MM) ⊕ (Int × MM)) :=
  if w32 x7 < w32 4 then
    (gfr 24 8 x6 M).bind fun v1 =>
    (gfr 4 0 v1 M).bind fun v2 =>
    (gfi 24 0 x6 M).bind fun v3 =>
    (sab v2 (1 + x7) (sx8 (bush v3 (24 - (8 * x7)))) M).bind fun M1 =>
    cnt (x7 + 1, M1)
  else
    xit (j_X17_ask_152 x0 x3 x4 x5 x6 M)
def l_X17_ask_112 (x0 x3 x4 x5 x6 x7 : Int) (M : MM) : Option (Int × MM) := lpN (fun s : Int × MM => b_X17_ask_112 x0 x3 x4 x5 x6 s.1 s.2) FU (x7, M)
def j_X17_ask_39 (x0 x1 x2 x3 x4 x5 : Int) (M : MM) : Option (Int × MM) :=
  (gfr 17 8 x0 M).bind fun v1 =>
  (gfi 17 9 x0 M).bind fun v2 =>
  (lar 11 v1 v2 M).bind fun v3 =>
  (gfi 17 9 x0 M).bind fun v4 =>
  (pfi 17 9 x0 (v4 + 1) M).bind fun M1 =>
  (gfi 17 10 x0 M1).bind fun v5 =>
  (pfi 24 0 v3 v5 M1).bind fun M2 =>
  (gfi 17 10 x0 M2).bind fun v6 =>
  (pfi 17 10 x0 (v6 + 1) M2).bind fun M3 =>
  (gfr 24 7 v3 M3).bind fun v7 =>
  ck 3 v7 M3 <| (f_X3_set v7 x1 M3).bind fun M4 =>
  (pfi 24 1 v3 x2 M4).bind fun M5 =>
  (gfr 24 8 v3 M5).bind fun v8 =>
  (gfr 17 0 x0 M5).bind fun v9 =>
  (gfr 6 8 v9 M5).bind fun v10 =>
  ck 4 v8 M5 <| (f_X4_copy v8 v10 M5).bind fun M6 =>
  l_X17_ask_112 x0 x3 x4 x5 v3 0 M6
def f_X17_ask (x0 x1 x2 x3 x4 x5 : Int) (M : MM) : Option (Int × MM) :=
  (gfi 17 9 x0 M).bind fun v1 =>
  if w32 v1 = w32 40 then
    some (0, M)
  else
    (gfr 17 8 x0 M).bind fun v2 =>
    (gfi 17 9 x0 M).bind fun v3 =>
    (lar 11 v2 v3 M).bind fun v4 =>
    if v4 = -1 then
      (gfr 17 8 x0 M).bind fun v5 =>
      (gfi 17 9 x0 M).bind fun v6 =>
      (nob 24 11 36 M).bind fun r1 =>
      nn r1.1 <| (f_X24_init r1.1 r1.2).bind fun M1 =>
      (sar 11 v5 v6 r1.1 M1).bind fun M2 =>
      j_X17_ask_39 x0 x1 x2 x3 x4 x5 M2
    else
      j_X17_ask_39 x0 x1 x2 x3 x4 x5 M
theorem s_X17_ask_185 {g : GG} {d : Nat} (hD : 7 ≤ d) {x0 x4 x5 x6 y0 y1 : Int} {M : MM} {o : AV × MM} {P : (Int × MM) → Prop} (r0 : ∀ r : Int × MM, P r → o = ((0, r.1), r.2)) {z : Int × MM} (h : j_X17_ask_185 x0 x4 x5 x6 y0 y1 M = some z) (hz : P z) : Sem g d YX17_ask 185 [(1, x0), (9, 0), (9, 0), (9, 0), (0, x4), (1, x5), (1, x6), (9, 0)] [(0, y1), (1, y0)] M o := by
  delta j_X17_ask_185 at h
  refine P_pfi FLX17_158 FPX17_158 rfl dX17_ask_185 h (fun M1 h => ?_)
  refine S_aload dX17_ask_188 rfl ?_
  refine S_iload dX17_ask_190 rfl ?_
  refine P_pfi FLX17_159 FPX17_159 rfl dX17_ask_192 h (fun M2 h => ?_)
  refine S_aload dX17_ask_195 rfl ?_
  refine S_aload dX17_ask_197 rfl ?_
  refine P_pfr FLX17_162 FPX17_162 (Or.inl ⟨_, rfl⟩) rfl dX17_ask_199 h (fun M3 h => ?_)
  refine S_aload dX17_ask_202 rfl ?_
  refine S_iconst dX17_ask_204 rfl ?_
  refine P_pfi FLX17_166 FPX17_166 rfl dX17_ask_205 h (fun M4 h => ?_)
  refine S_aload_n (i := 0) dX17_ask_208 rfl rfl ?_
  refine S_aload dX17_ask_209 rfl ?_
  refine P_invVm' [(1, x6)] [] CVX17_sendAgain MLX17_167 dX17_ask_211 rfl rfl rfl rfl (by omega) h (fun r h => F_X17_sendAgain (by omega) h) (fun M5 h => ?_)
  refine S_iconst dX17_ask_214 rfl ?_
  obtain rfl := r0 _ (some_P (P := fun r => P r) h hz)
  exact P_ret dX17_ask_215 rfl (Or.inr ⟨rfl, Or.inr rfl⟩)
theorem s_X17_ask_152 {g : GG} {d : Nat} (hD : 7 ≤ d) {x0 x3 x4 x5 x6 : Int} {M : MM} {o : AV × MM} {P : (Int × MM) → Prop} (r0 : ∀ r : Int × MM, P r → o = ((0, r.1), r.2)) {z : Int × MM} (h : j_X17_ask_152 x0 x3 x4 x5 x6 M = some z) (hz : P z) : Sem g d YX17_ask 152 [(1, x0), (9, 0), (9, 0), (1, x3), (0, x4), (1, x5), (1, x6), (9, 0)] [] M o := by
  delta j_X17_ask_152 at h
  refine S_aload dX17_ask_152 rfl ?_
  refine S_aload dX17_ask_154 rfl ?_
  refine P_gfr FLX17_135 rfl dX17_ask_156 h (fun v1 h => ?_)
  refine P_invVp 0 [] [(1, x6)] CVX4_type MLX17_146 dX17_ask_159 rfl rfl rfl rfl rfl (by omega) h (fun r h => F_X4_type (by omega) h) (fun v2 h => ?_)
  refine P_pfi FLX17_150 FPX17_150 rfl dX17_ask_162 h (fun M1 h => ?_)
  refine S_aload dX17_ask_165 rfl ?_
  refine S_aload_n (i := 3) dX17_ask_167 rfl rfl ?_
  refine P_pfr FLX17_152 FPX17_152 (Or.inl ⟨_, rfl⟩) rfl dX17_ask_168 h (fun M2 h => ?_)
  refine S_aload dX17_ask_171 rfl ?_
  refine S_aload_n (i := 3) dX17_ask_173 rfl rfl ?_
  refine P_ifnonnull (tgt := 181) dX17_ask_174 rfl h (fun h => ?_) (fun h => ?_)
  · refine S_aload_n (i := 3) dX17_ask_181 rfl rfl ?_
    refine P_gfi FLX17_155 rfl dX17_ask_182 h (fun v3 h => ?_)
    refine S_weak (ls' := [(1, x0), (9, 0), (9, 0), (9, 0), (0, x4), (1, x5), (1, x6), (9, 0)]) ⟨Or.inr rfl, ⟨Or.inl rfl, ⟨Or.inl rfl, ⟨Or.inl rfl, ⟨Or.inr rfl, ⟨Or.inr rfl, ⟨Or.inr rfl, ⟨Or.inl rfl, trivial⟩⟩⟩⟩⟩⟩⟩⟩ ?_
    exact s_X17_ask_185 hD r0 h hz
  · refine S_iconst dX17_ask_177 rfl ?_
    refine S_goto (tgt := 185) dX17_ask_178 rfl ?_
    refine S_weak (ls' := [(1, x0), (9, 0), (9, 0), (9, 0), (0, x4), (1, x5), (1, x6), (9, 0)]) ⟨Or.inr rfl, ⟨Or.inl rfl, ⟨Or.inl rfl, ⟨Or.inl rfl, ⟨Or.inr rfl, ⟨Or.inr rfl, ⟨Or.inr rfl, ⟨Or.inl rfl, trivial⟩⟩⟩⟩⟩⟩⟩⟩ ?_
    exact s_X17_ask_185 hD r0 h hz
theorem s_X17_ask_112 {g : GG} {d : Nat} (hD : 7 ≤ d) {x0 x3 x4 x5 x6 x7 : Int} {M : MM} {o : AV × MM} {P : ((Int × MM) ⊕ (Int × MM)) → Prop} (c0 : ∀ s : Int × MM, P (.inl s) → Sem g d YX17_ask 112 [(1, x0), (9, 0), (9, 0), (1, x3), (0, x4), (1, x5), (1, x6), (0, s.1)] [] s.2 o) (r0 : ∀ r : Int × MM, P (.inr r) → o = ((0, r.1), r.2)) {z : (Int × MM) ⊕ (Int × MM)} (h : b_X17_ask_112 x0 x3 x4 x5 x6 x7 M = some z) (hz : P z) : Sem g d YX17_ask 112 [(1, x0), (9, 0), (9, 0), (1, x3), (0, x4), (1, x5), (1, x6), (0, x7)] [] M o := by
  delta b_X17_ask_112 at h
  refine S_iload dX17_ask_112 rfl ?_
  refine S_iconst dX17_ask_114 rfl ?_
  refine P_icmp_ge (tgt := 152) dX17_ask_115 rfl h (fun h => ?_) (fun h => ?_)
  · refine S_weak (ls' := [(1, x0), (9, 0), (9, 0), (1, x3), (0, x4), (1, x5), (1, x6), (9, 0)]) ⟨Or.inr rfl, ⟨Or.inl rfl, ⟨Or.inl rfl, ⟨Or.inr rfl, ⟨Or.inr rfl, ⟨Or.inr rfl, ⟨Or.inr rfl, ⟨Or.inl rfl, trivial⟩⟩⟩⟩⟩⟩⟩⟩ ?_
    obtain ⟨z0, h, hz⟩ := xit_some' (P := fun r => P r) h hz
    exact s_X17_ask_152 hD (P := fun r => P (.inr r)) r0 h hz
  · refine S_aload dX17_ask_118 rfl ?_
    refine P_gfr FLX17_135 rfl dX17_ask_120 h (fun v1 h => ?_)
    refine P_gfr FLX17_142 rfl dX17_ask_123 h (fun v2 h => ?_)
    refine S_iconst dX17_ask_126 rfl ?_
    refine S_iload dX17_ask_127 rfl ?_
    refine S_iadd dX17_ask_129 ?_
    refine S_aload dX17_ask_130 rfl ?_
    refine P_gfi FLX17_130 rfl dX17_ask_132 h (fun v3 h => ?_)
    refine S_bipush (z := 24) dX17_ask_135 rfl ?_
    refine S_bipush (z := 8) dX17_ask_137 rfl ?_
    refine S_iload dX17_ask_139 rfl ?_
    refine S_imul dX17_ask_141 ?_
    refine S_isub dX17_ask_142 ?_
    refine S_iushr dX17_ask_143 ?_
    refine S_i2b dX17_ask_144 ?_
    refine P_sab dX17_ask_145 h (fun M1 h => ?_)
    refine S_iinc dX17_ask_146 rfl rfl rfl ?_
    change Sem g d YX17_ask 149 [(1, x0), (9, 0), (9, 0), (1, x3), (0, x4), (1, x5), (1, x6), (0, x7 + 1)] [] M1 o
    refine S_goto (tgt := 112) dX17_ask_149 rfl ?_
    exact c0 (x7 + 1, M1) (some_P (P := fun r => P r) h hz)
theorem sl_X17_ask_112 {g : GG} {d : Nat} (hD : 7 ≤ d) {x0 x3 x4 x5 x6 x7 : Int} {M : MM} {o : AV × MM} {P : (Int × MM) → Prop} (r0 : ∀ r : Int × MM, P r → o = ((0, r.1), r.2)) {z : Int × MM} (h : l_X17_ask_112 x0 x3 x4 x5 x6 x7 M = some z) (hz : P z) : Sem g d YX17_ask 112 [(1, x0), (9, 0), (9, 0), (1, x3), (0, x4), (1, x5), (1, x6), (0, x7)] [] M o := by
  refine lp_sound (S := fun s : Int × MM => Sem g d YX17_ask 112 [(1, x0), (9, 0), (9, 0), (1, x3), (0, x4), (1, x5), (1, x6), (0, s.1)] [] s.2 o) (P := P) ?_ FU (x7, M) z h hz
  intro s x hx hP
  exact s_X17_ask_112 hD (P := Sum.elim (fun s : Int × MM => Sem g d YX17_ask 112 [(1, x0), (9, 0), (9, 0), (1, x3), (0, x4), (1, x5), (1, x6), (0, s.1)] [] s.2 o) P) (fun s h => h) (fun s h => r0 s h) hx hP
theorem s_X17_ask_39 {g : GG} {d : Nat} (hD : 7 ≤ d) {x0 x1 x2 x3 x4 x5 : Int} {M : MM} {o : AV × MM} {P : (Int × MM) → Prop} (r0 : ∀ r : Int × MM, P r → o = ((0, r.1), r.2)) {z : Int × MM} (h : j_X17_ask_39 x0 x1 x2 x3 x4 x5 M = some z) (hz : P z) : Sem g d YX17_ask 39 [(1, x0), (1, x1), (0, x2), (1, x3), (0, x4), (1, x5), (9, 0), (9, 0)] [] M o := by
  delta j_X17_ask_39 at h
  refine S_aload_n (i := 0) dX17_ask_39 rfl rfl ?_
  refine P_gfr FLX17_34 rfl dX17_ask_40 h (fun v1 h => ?_)
  refine S_aload_n (i := 0) dX17_ask_43 rfl rfl ?_
  refine P_gfi FLX17_101 rfl dX17_ask_44 h (fun v2 h => ?_)
  refine P_lar (t := 11) ⟨by decide, by decide⟩ dX17_ask_47 h (fun v3 h => ?_)
  refine S_astore dX17_ask_48 (Nat.le_of_ble_eq_true rfl) rfl rfl ?_
  change Sem g d YX17_ask 50 [(1, x0), (1, x1), (0, x2), (1, x3), (0, x4), (1, x5), (1, v3), (9, 0)] [] M o
  refine S_aload_n (i := 0) dX17_ask_50 rfl rfl ?_
  refine S_dup dX17_ask_51 (Nat.le_of_ble_eq_true rfl) ?_
  refine P_gfi FLX17_101 rfl dX17_ask_52 h (fun v4 h => ?_)
  refine S_iconst dX17_ask_55 rfl ?_
  refine S_iadd dX17_ask_56 ?_
  refine P_pfi FLX17_101 FPX17_101 rfl dX17_ask_57 h (fun M1 h => ?_)
  refine S_aload dX17_ask_60 rfl ?_
  refine S_aload_n (i := 0) dX17_ask_62 rfl rfl ?_
  refine P_gfi FLX17_38 rfl dX17_ask_63 h (fun v5 h => ?_)
  refine P_pfi FLX17_130 FPX17_130 rfl dX17_ask_66 h (fun M2 h => ?_)
  refine S_aload_n (i := 0) dX17_ask_69 rfl rfl ?_
  refine S_dup dX17_ask_70 (Nat.le_of_ble_eq_true rfl) ?_
  refine P_gfi FLX17_38 rfl dX17_ask_71 h (fun v6 h => ?_)
  refine S_iconst dX17_ask_74 rfl ?_
  refine S_iadd dX17_ask_75 ?_
  refine P_pfi FLX17_38 FPX17_38 rfl dX17_ask_76 h (fun M3 h => ?_)
  refine S_aload dX17_ask_79 rfl ?_
  refine P_gfr FLX17_131 rfl dX17_ask_81 h (fun v7 h => ?_)
  refine S_aload_n (i := 1) dX17_ask_84 rfl rfl ?_
  refine P_invVm' [(1, x1)] [] CVX3_set MLX17_49 dX17_ask_85 rfl rfl rfl rfl (by omega) h (fun r h => F_X3_set (by omega) h) (fun M4 h => ?_)
  refine S_aload dX17_ask_88 rfl ?_
  refine S_iload_n (i := 2) dX17_ask_90 rfl rfl ?_
  refine P_pfi FLX17_132 FPX17_132 rfl dX17_ask_91 h (fun M5 h => ?_)
  refine S_aload dX17_ask_94 rfl ?_
  refine P_gfr FLX17_135 rfl dX17_ask_96 h (fun v8 h => ?_)
  refine S_aload_n (i := 0) dX17_ask_99 rfl rfl ?_
  refine P_gfr FLX17_42 rfl dX17_ask_100 h (fun v9 h => ?_)
  refine P_gfr FLX17_119 rfl dX17_ask_103 h (fun v10 h => ?_)
  refine P_invVm' [(1, v10)] [] CVX4_copy MLX17_138 dX17_ask_106 rfl rfl rfl rfl (by omega) h (fun r h => F_X4_copy (by omega) h) (fun M6 h => ?_)
  refine S_iconst dX17_ask_109 rfl ?_
  refine S_istore dX17_ask_110 (Nat.le_of_ble_eq_true rfl) rfl rfl ?_
  change Sem g d YX17_ask 112 [(1, x0), (1, x1), (0, x2), (1, x3), (0, x4), (1, x5), (1, v3), (0, 0)] [] M6 o
  refine S_weak (ls' := [(1, x0), (9, 0), (9, 0), (1, x3), (0, x4), (1, x5), (1, v3), (0, 0)]) ⟨Or.inr rfl, ⟨Or.inl rfl, ⟨Or.inl rfl, ⟨Or.inr rfl, ⟨Or.inr rfl, ⟨Or.inr rfl, ⟨Or.inr rfl, ⟨Or.inr rfl, trivial⟩⟩⟩⟩⟩⟩⟩⟩ ?_
  exact sl_X17_ask_112 hD r0 h hz
theorem s_X17_ask_0 {g : GG} {d : Nat} (hD : 7 ≤ d) {x0 x1 x2 x3 x4 x5 : Int} {M : MM} {o : AV × MM} {P : (Int × MM) → Prop} (r0 : ∀ r : Int × MM, P r → o = ((0, r.1), r.2)) {z : Int × MM} (h : f_X17_ask x0 x1 x2 x3 x4 x5 M = some z) (hz : P z) : Sem g d YX17_ask 0 [(1, x0), (1, x1), (0, x2), (1, x3), (0, x4), (1, x5), (9, 0), (9, 0)] [] M o := by
  delta f_X17_ask at h
  refine S_aload_n (i := 0) dX17_ask_0 rfl rfl ?_
  refine P_gfi FLX17_101 rfl dX17_ask_1 h (fun v1 h => ?_)
  refine S_bipush (z := 40) dX17_ask_4 rfl ?_
  refine P_icmp_ne (tgt := 11) dX17_ask_6 rfl h (fun h => ?_) (fun h => ?_)
  · refine S_aload_n (i := 0) dX17_ask_11 rfl rfl ?_
    refine P_gfr FLX17_34 rfl dX17_ask_12 h (fun v2 h => ?_)
    refine S_aload_n (i := 0) dX17_ask_15 rfl rfl ?_
    refine P_gfi FLX17_101 rfl dX17_ask_16 h (fun v3 h => ?_)
    refine P_lar (t := 11) ⟨by decide, by decide⟩ dX17_ask_19 h (fun v4 h => ?_)
    refine P_ifnonnull (tgt := 39) dX17_ask_20 rfl h (fun h => ?_) (fun h => ?_)
    · exact s_X17_ask_39 hD r0 h hz
    · refine S_aload_n (i := 0) dX17_ask_23 rfl rfl ?_
      refine P_gfr FLX17_34 rfl dX17_ask_24 h (fun v5 h => ?_)
      refine S_aload_n (i := 0) dX17_ask_27 rfl rfl ?_
      refine P_gfi FLX17_101 rfl dX17_ask_28 h (fun v6 h => ?_)
      refine P_nob NLX17_32 rfl dX17_ask_31 h (fun r1 h => ?_)
      refine S_dup dX17_ask_34 (Nat.le_of_ble_eq_true rfl) ?_
      refine P_invI' [] [(1, r1.1), (0, v6), (1, v5)] CIX24_init MLX17_129 dX17_ask_35 rfl rfl rfl rfl (by omega) h (fun r h => F_X24_init (by omega) h) (fun M1 h => ?_)
      refine P_sar (t := 11) ⟨by decide, by decide⟩ dX17_ask_38 h (fun M2 h => ?_)
      exact s_X17_ask_39 hD r0 h hz
  · refine S_iconst dX17_ask_9 rfl ?_
    obtain rfl := r0 _ (some_P (P := fun r => P r) h hz)
    exact P_ret dX17_ask_10 rfl (Or.inr ⟨rfl, Or.inl rfl⟩)
theorem F_X17_ask {g : GG} {d : Nat} (hD : 7 ≤ d) {x0 x1 x2 x3 x4 x5 : Int} {M : MM} {r : Int × MM} (h : f_X17_ask x0 x1 x2 x3 x4 x5 M = some r) : Sem g d YX17_ask 0 (ini YX17_ask [(1, x0), (1, x1), (0, x2), (1, x3), (0, x4), (1, x5)]) [] M ((0, r.1), r.2) := by
  change Sem g d YX17_ask 0 [(1, x0), (1, x1), (0, x2), (1, x3), (0, x4), (1, x5), (9, 0), (9, 0)] [] M ((0, r.1), r.2)
  exact s_X17_ask_0 hD (P := fun x => x = r) (fun q e => by rw [e]) h rfl
