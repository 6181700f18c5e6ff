set_option maxRecDepth 100000
/-! PeerSearch$Work.ask(LPeerSearch$Key;II)Z -/
theorem dX11_ask_2_0 : decode cX11_ask_2 0 = .ok (.aload_n 0, 1) := by decide +kernel
theorem dX11_ask_2_1 : decode cX11_ask_2 1 = .ok (.getfield 75, 3) := by decide +kernel
theorem dX11_ask_2_4 : decode cX11_ask_2 4 = .ok (.ifnull 16, 3) := by decide +kernel
theorem dX11_ask_2_7 : decode cX11_ask_2 7 = .ok (.aload_n 0, 1) := by decide +kernel
theorem dX11_ask_2_8 : decode cX11_ask_2 8 = .ok (.getfield 75, 3) := by decide +kernel
theorem dX11_ask_2_11 : decode cX11_ask_2 11 = .ok (.dup, 1) := by decide +kernel
theorem dX11_ask_2_12 : decode cX11_ask_2 12 = .ok (.getfield 177, 3) := by decide +kernel
theorem dX11_ask_2_15 : decode cX11_ask_2 15 = .ok (.iconst 1, 1) := by decide +kernel
theorem dX11_ask_2_16 : decode cX11_ask_2 16 = .ok (.iadd, 1) := by decide +kernel
theorem dX11_ask_2_17 : decode cX11_ask_2 17 = .ok (.putfield 177, 3) := by decide +kernel
theorem dX11_ask_2_20 : decode cX11_ask_2 20 = .ok (.aload_n 0, 1) := by decide +kernel
theorem dX11_ask_2_21 : decode cX11_ask_2 21 = .ok (.getfield 67, 3) := by decide +kernel
theorem dX11_ask_2_24 : decode cX11_ask_2 24 = .ok (.aload_n 1, 1) := by decide +kernel
theorem dX11_ask_2_25 : decode cX11_ask_2 25 = .ok (.iload_n 2, 1) := by decide +kernel
theorem dX11_ask_2_26 : decode cX11_ask_2 26 = .ok (.aload_n 0, 1) := by decide +kernel
theorem dX11_ask_2_27 : decode cX11_ask_2 27 = .ok (.iload_n 3, 1) := by decide +kernel
theorem dX11_ask_2_28 : decode cX11_ask_2 28 = .ok (.aconst_null, 1) := by decide +kernel
theorem dX11_ask_2_29 : decode cX11_ask_2 29 = .ok (.invokevirtual 180, 3) := by decide +kernel
theorem dX11_ask_2_32 : decode cX11_ask_2 32 = .ok (.ireturn, 1) := by decide +kernel
def j_X11_ask_2_20 (x0 x1 x2 x3 : Int) (M : MM) : Option (Int × MM) :=
  (gfr 11 2 x0 M).bind fun v1 =>
  ck 17 v1 M <| (f_X17_ask v1 x1 x2 x0 x3 (-1) M).bind fun r1 =>
  bz r1.1 (some (r1.1, r1.2))
def f_X11_ask_2 (x0 x1 x2 x3 : Int) (M : MM) : Option (Int × MM) :=
  (gfr 11 4 x0 M).bind fun v1 =>
  if v1 = -1 then
    j_X11_ask_2_20 x0 x1 x2 x3 M
  else
    (gfr 11 4 x0 M).bind fun v2 =>
    (gfi 26 3 v2 M).bind fun v3 =>
    (pfi 26 3 v2 (v3 + 1) M).bind fun M1 =>
    j_X11_ask_2_20 x0 x1 x2 x3 M1
theorem s_X11_ask_2_20 {g : GG} {d : Nat} (hD : 8 ≤ d) {x0 x1 x2 x3 : Int} {M : MM} {o : AV × MM} {P : (Int × MM) → Prop} (r0 : ∀ r : Int × MM, P r → o = ((0, r.1), r.2)) {z : Int × MM} (h : j_X11_ask_2_20 x0 x1 x2 x3 M = some z) (hz : P z) : Sem g d YX11_ask_2 20 [(1, x0), (1, x1), (0, x2), (0, x3)] [] M o := by
  delta j_X11_ask_2_20 at h
  refine S_aload_n (i := 0) dX11_ask_2_20 rfl rfl ?_
  refine P_gfr FLX11_67 rfl dX11_ask_2_21 h (fun v1 h => ?_)
  refine S_aload_n (i := 1) dX11_ask_2_24 rfl rfl ?_
  refine S_iload_n (i := 2) dX11_ask_2_25 rfl rfl ?_
  refine S_aload_n (i := 0) dX11_ask_2_26 rfl rfl ?_
  refine S_iload_n (i := 3) dX11_ask_2_27 rfl rfl ?_
  refine S_null dX11_ask_2_28 ?_
  refine P_invVe 0 [(1, x1), (0, x2), (1, x0), (0, x3), (1, (-1))] [] CVX17_ask MLX11_180 dX11_ask_2_29 rfl rfl rfl rfl rfl (by omega) h (fun r h => F_X17_ask (by omega) h) (fun r1 h => ?_)
  obtain ⟨hb, h⟩ := bz_some h
  obtain rfl := r0 _ (some_P (P := fun r => P r) h hz)
  exact P_ret dX11_ask_2_32 rfl (Or.inr ⟨rfl, hb⟩)
theorem s_X11_ask_2_0 {g : GG} {d : Nat} (hD : 8 ≤ d) {x0 x1 x2 x3 : Int} {M : MM} {o : AV × MM} {P : (Int × MM) → Prop} (r0 : ∀ r : Int × MM, P r → o = ((0, r.1), r.2)) {z : Int × MM} (h : f_X11_ask_2 x0 x1 x2 x3 M = some z) (hz : P z) : Sem g d YX11_ask_2 0 [(1, x0), (1, x1), (0, x2), (0, x3)] [] M o := by
  delta f_X11_ask_2 at h
  refine S_aload_n (i := 0) dX11_ask_2_0 rfl rfl ?_
  refine P_gfr FLX11_75 rfl dX11_ask_2_1 h (fun v1 h => ?_)
  refine P_ifnull (tgt := 20) dX11_ask_2_4 rfl h (fun h => ?_) (fun h => ?_)
  · exact s_X11_ask_2_20 hD r0 h hz
  · refine S_aload_n (i := 0) dX11_ask_2_7 rfl rfl ?_
    refine P_gfr FLX11_75 rfl dX11_ask_2_8 h (fun v2 h => ?_)
    refine S_dup dX11_ask_2_11 (Nat.le_of_ble_eq_true rfl) ?_
    refine P_gfi FLX11_177 rfl dX11_ask_2_12 h (fun v3 h => ?_)
    refine S_iconst dX11_ask_2_15 rfl ?_
    refine S_iadd dX11_ask_2_16 ?_
    refine P_pfi FLX11_177 FPX11_177 rfl dX11_ask_2_17 h (fun M1 h => ?_)
    exact s_X11_ask_2_20 hD r0 h hz
theorem F_X11_ask_2 {g : GG} {d : Nat} (hD : 8 ≤ d) {x0 x1 x2 x3 : Int} {M : MM} {r : Int × MM} (h : f_X11_ask_2 x0 x1 x2 x3 M = some r) : Sem g d YX11_ask_2 0 (ini YX11_ask_2 [(1, x0), (1, x1), (0, x2), (0, x3)]) [] M ((0, r.1), r.2) := by
  change Sem g d YX11_ask_2 0 [(1, x0), (1, x1), (0, x2), (0, x3)] [] M ((0, r.1), r.2)
  exact s_X11_ask_2_0 hD (P := fun x => x = r) (fun q e => by rw [e]) h rfl
/-! PeerSearch$Work.ask(LPeerSearch$Key;I)Z -/
theorem dX11_ask_0 : decode cX11_ask 0 = .ok (.aload_n 0, 1) := by decide +kernel
theorem dX11_ask_1 : decode cX11_ask 1 = .ok (.aload_n 1, 1) := by decide +kernel
theorem dX11_ask_2 : decode cX11_ask 2 = .ok (.iload_n 2, 1) := by decide +kernel
theorem dX11_ask_3 : decode cX11_ask 3 = .ok (.iconst 1, 1) := by decide +kernel
theorem dX11_ask_4 : decode cX11_ask 4 = .ok (.invokevirtual 172, 3) := by decide +kernel
theorem dX11_ask_7 : decode cX11_ask 7 = .ok (.ireturn, 1) := by decide +kernel
def f_X11_ask (x0 x1 x2 : Int) (M : MM) : Option (Int × MM) :=
  ck 11 x0 M <| (f_X11_ask_2 x0 x1 x2 1 M).bind fun r1 =>
  bz r1.1 (some (r1.1, r1.2))
theorem s_X11_ask_0 {g : GG} {d : Nat} (hD : 9 ≤ d) {x0 x1 x2 : Int} {M : MM} {o : AV × MM} {P : (Int × MM) → Prop} (r0 : ∀ r : Int × MM, P r → o = ((0, r.1), r.2)) {z : Int × MM} (h : f_X11_ask x0 x1 x2 M = some z) (hz : P z) : Sem g d YX11_ask 0 [(1, x0), (1, x1), (0, x2)] [] M o := by
  delta f_X11_ask at h
  refine S_aload_n (i := 0) dX11_ask_0 rfl rfl ?_
  refine S_aload_n (i := 1) dX11_ask_1 rfl rfl ?_
  refine S_iload_n (i := 2) dX11_ask_2 rfl rfl ?_
  refine S_iconst dX11_ask_3 rfl ?_
  refine P_invVe 0 [(1, x1), (0, x2), (0, 1)] [] CVX11_ask_2 MLX11_172 dX11_ask_4 rfl rfl rfl rfl rfl (by omega) h (fun r h => F_X11_ask_2 (by omega) h) (fun r1 h => ?_)
  obtain ⟨hb, h⟩ := bz_some h
  obtain rfl := r0 _ (some_P (P := fun r => P r) h hz)
  exact P_ret dX11_ask_7 rfl (Or.inr ⟨rfl, hb⟩)
theorem F_X11_ask {g : GG} {d : Nat} (hD : 9 ≤ d) {x0 x1 x2 : Int} {M : MM} {r : Int × MM} (h : f_X11_ask x0 x1 x2 M = some r) : Sem g d YX11_ask 0 (ini YX11_ask [(1, x0), (1, x1), (0, x2)]) [] M ((0, r.1), r.2) := by
  change Sem g d YX11_ask 0 [(1, x0), (1, x1), (0, x2)] [] M ((0, r.1), r.2)
  exact s_X11_ask_0 hD (P := fun x => x = r) (fun q e => by rw [e]) h rfl
def RH (g : GG) (d : Nat) (R : Nat → Int → Int → Int → MM → Option MM) : Prop := (∀ x0 x1 x2 M r, R 0 x0 x1 x2 M = some r → Sem g (d - 1) YX31_answered 0 (ini YX31_answered [(1, x0), (1, x1), (1, x2)]) [] M ((9, 0), r)) ∧ (∀ (x0 x1 : Int) (M r : MM), R 1 x0 x1 0 M = some r → Sem g (d - 1) YX31_check 0 (ini YX31_check [(1, x0), (1, x1)]) [] M ((9, 0), r)) ∧ (∀ x0 x1 x2 M r, R 2 x0 x1 x2 M = some r → Sem g (d - 1) YX31_checked 0 (ini YX31_checked [(1, x0), (1, x1), (1, x2)]) [] M ((9, 0), r)) ∧ (∀ x0 x1 x2 M r, R 3 x0 x1 x2 M = some r → Sem g (d - 1) YX31_consult 0 (ini YX31_consult [(1, x0), (1, x1), (0, x2)]) [] M ((9, 0), r)) ∧ (∀ (x0 x1 : Int) (M r : MM), R 4 x0 x1 0 M = some r → Sem g (d - 1) YX31_list 0 (ini YX31_list [(1, x0), (1, x1)]) [] M ((9, 0), r)) ∧ (∀ x0 x1 x2 M r, R 5 x0 x1 x2 M = some r → Sem g (d - 1) YX31_listed 0 (ini YX31_listed [(1, x0), (1, x1), (1, x2)]) [] M ((9, 0), r))
/-! PeerSearch$Asking.answered(LPeerSearch$Work;LPeerSearch$Packet;)V -/
theorem dX31_answered_0 : decode cX31_answered 0 = .ok (.aload_n 0, 1) := by decide +kernel
theorem dX31_answered_1 : decode cX31_answered 1 = .ok (.getfield 108, 3) := by decide +kernel
theorem dX31_answered_4 : decode cX31_answered 4 = .ok (.ifCond .ne 21, 3) := by decide +kernel
theorem dX31_answered_7 : decode cX31_answered 7 = .ok (.aload_n 0, 1) := by decide +kernel
theorem dX31_answered_8 : decode cX31_answered 8 = .ok (.getfield 63, 3) := by decide +kernel
theorem dX31_answered_11 : decode cX31_answered 11 = .ok (.aload_n 2, 1) := by decide +kernel
theorem dX31_answered_12 : decode cX31_answered 12 = .ok (.bipush 27, 2) := by decide +kernel
theorem dX31_answered_14 : decode cX31_answered 14 = .ok (.invokevirtual 221, 3) := by decide +kernel
theorem dX31_answered_17 : decode cX31_answered 17 = .ok (.aload_n 0, 1) := by decide +kernel
theorem dX31_answered_18 : decode cX31_answered 18 = .ok (.aload_n 1, 1) := by decide +kernel
theorem dX31_answered_19 : decode cX31_answered 19 = .ok (.invokevirtual 105, 3) := by decide +kernel
theorem dX31_answered_22 : decode cX31_answered 22 = .ok (.goto 26, 3) := by decide +kernel
theorem dX31_answered_25 : decode cX31_answered 25 = .ok (.aload_n 0, 1) := by decide +kernel
theorem dX31_answered_26 : decode cX31_answered 26 = .ok (.getfield 108, 3) := by decide +kernel
theorem dX31_answered_29 : decode cX31_answered 29 = .ok (.iconst 1, 1) := by decide +kernel
theorem dX31_answered_30 : decode cX31_answered 30 = .ok (.if_icmp .ne 12, 3) := by decide +kernel
theorem dX31_answered_33 : decode cX31_answered 33 = .ok (.aload_n 0, 1) := by decide +kernel
theorem dX31_answered_34 : decode cX31_answered 34 = .ok (.aload_n 1, 1) := by decide +kernel
theorem dX31_answered_35 : decode cX31_answered 35 = .ok (.aload_n 2, 1) := by decide +kernel
theorem dX31_answered_36 : decode cX31_answered 36 = .ok (.invokevirtual 225, 3) := by decide +kernel
theorem dX31_answered_39 : decode cX31_answered 39 = .ok (.goto 9, 3) := by decide +kernel
theorem dX31_answered_42 : decode cX31_answered 42 = .ok (.aload_n 0, 1) := by decide +kernel
theorem dX31_answered_43 : decode cX31_answered 43 = .ok (.aload_n 1, 1) := by decide +kernel
theorem dX31_answered_44 : decode cX31_answered 44 = .ok (.aload_n 2, 1) := by decide +kernel
theorem dX31_answered_45 : decode cX31_answered 45 = .ok (.invokevirtual 228, 3) := by decide +kernel
theorem dX31_answered_48 : decode cX31_answered 48 = .ok (.return_, 1) := by decide +kernel
def j_X31_answered_48 (R : Nat → Int → Int → Int → MM → Option MM) (M : MM) : Option (MM) :=
  some M
def f_X31_answered (R : Nat → Int → Int → Int → MM → Option MM) (x0 x1 x2 : Int) (M : MM) : Option (MM) :=
  (gfi 31 7 x0 M).bind fun v1 =>
  if w32 v1 = 0 then
    (gfr 31 8 x0 M).bind fun v3 =>
    ck 10 v3 M <| (f_X10_read v3 x2 27 M).bind fun M3 =>
    ck 31 x0 M3 <| (R 4 x0 x1 0 M3).bind fun M4 =>
    j_X31_answered_48 R M4
  else
    (gfi 31 7 x0 M).bind fun v2 =>
    if w32 v2 = w32 1 then
      ck 31 x0 M <| (R 5 x0 x1 x2 M).bind fun M2 =>
      j_X31_answered_48 R M2
    else
      ck 31 x0 M <| (R 2 x0 x1 x2 M).bind fun M1 =>
      j_X31_answered_48 R M1
theorem s_X31_answered_48 {g : GG} {d : Nat} (hD : 10 ≤ d) {R : Nat → Int → Int → Int → MM → Option MM} (hR : RH g d R) {M : MM} {o : AV × MM} {P : (MM) → Prop} (r0 : ∀ r : MM, P r → o = ((9, 0), r)) {z : MM} (h : j_X31_answered_48 R M = some z) (hz : P z) : Sem g d YX31_answered 48 [(9, 0), (9, 0), (9, 0)] [] M o := by
  delta j_X31_answered_48 at h
  obtain rfl := r0 _ (some_P (P := fun r => P r) h hz)
  exact S_return dX31_answered_48 rfl
theorem s_X31_answered_0 {g : GG} {d : Nat} (hD : 10 ≤ d) {R : Nat → Int → Int → Int → MM → Option MM} (hR : RH g d R) {x0 x1 x2 : Int} {M : MM} {o : AV × MM} {P : (MM) → Prop} (r0 : ∀ r : MM, P r → o = ((9, 0), r)) {z : MM} (h : f_X31_answered R x0 x1 x2 M = some z) (hz : P z) : Sem g d YX31_answered 0 [(1, x0), (1, x1), (1, x2)] [] M o := by
  delta f_X31_answered at h
  refine S_aload_n (i := 0) dX31_answered_0 rfl rfl ?_
  refine P_gfi FLX31_108 rfl dX31_answered_1 h (fun v1 h => ?_)
  refine P_if_ne (tgt := 25) dX31_answered_4 rfl h (fun h => ?_) (fun h => ?_)
  · refine S_aload_n (i := 0) dX31_answered_25 rfl rfl ?_
    refine P_gfi FLX31_108 rfl dX31_answered_26 h (fun v2 h => ?_)
    refine S_iconst dX31_answered_29 rfl ?_
    refine P_icmp_ne (tgt := 42) dX31_answered_30 rfl h (fun h => ?_) (fun h => ?_)
    · refine S_aload_n (i := 0) dX31_answered_42 rfl rfl ?_
      refine S_aload_n (i := 1) dX31_answered_43 rfl rfl ?_
      refine S_aload_n (i := 2) dX31_answered_44 rfl rfl ?_
      refine P_invVm' [(1, x1), (1, x2)] [] CVX31_checked MLX31_228 dX31_answered_45 rfl rfl rfl rfl (by omega) h (fun r h => hR.2.2.1 _ _ _ _ _ h) (fun M1 h => ?_)
      refine S_weak (ls' := [(9, 0), (9, 0), (9, 0)]) ⟨Or.inl rfl, ⟨Or.inl rfl, ⟨Or.inl rfl, trivial⟩⟩⟩ ?_
      exact s_X31_answered_48 hD hR r0 h hz
    · refine S_aload_n (i := 0) dX31_answered_33 rfl rfl ?_
      refine S_aload_n (i := 1) dX31_answered_34 rfl rfl ?_
      refine S_aload_n (i := 2) dX31_answered_35 rfl rfl ?_
      refine P_invVm' [(1, x1), (1, x2)] [] CVX31_listed MLX31_225 dX31_answered_36 rfl rfl rfl rfl (by omega) h (fun r h => hR.2.2.2.2.2 _ _ _ _ _ h) (fun M2 h => ?_)
      refine S_goto (tgt := 48) dX31_answered_39 rfl ?_
      refine S_weak (ls' := [(9, 0), (9, 0), (9, 0)]) ⟨Or.inl rfl, ⟨Or.inl rfl, ⟨Or.inl rfl, trivial⟩⟩⟩ ?_
      exact s_X31_answered_48 hD hR r0 h hz
  · refine S_aload_n (i := 0) dX31_answered_7 rfl rfl ?_
    refine P_gfr FLX31_63 rfl dX31_answered_8 h (fun v3 h => ?_)
    refine S_aload_n (i := 2) dX31_answered_11 rfl rfl ?_
    refine S_bipush (z := 27) dX31_answered_12 rfl ?_
    refine P_invVm' [(1, x2), (0, 27)] [] CVX10_read MLX31_221 dX31_answered_14 rfl rfl rfl rfl (by omega) h (fun r h => F_X10_read (by omega) h) (fun M3 h => ?_)
    refine S_aload_n (i := 0) dX31_answered_17 rfl rfl ?_
    refine S_aload_n (i := 1) dX31_answered_18 rfl rfl ?_
    refine P_invVm' [(1, x1)] [] CVX31_list MLX31_105 dX31_answered_19 rfl rfl rfl rfl (by omega) h (fun r h => hR.2.2.2.2.1 _ _ _ _ h) (fun M4 h => ?_)
    refine S_goto (tgt := 48) dX31_answered_22 rfl ?_
    refine S_weak (ls' := [(9, 0), (9, 0), (9, 0)]) ⟨Or.inl rfl, ⟨Or.inl rfl, ⟨Or.inl rfl, trivial⟩⟩⟩ ?_
    exact s_X31_answered_48 hD hR r0 h hz
theorem Fr_X31_answered {g : GG} {d : Nat} (hD : 10 ≤ d) {R : Nat → Int → Int → Int → MM → Option MM} (hR : RH g d R) {x0 x1 x2 : Int} {M : MM} {r : MM} (h : f_X31_answered R x0 x1 x2 M = some r) : Sem g d YX31_answered 0 (ini YX31_answered [(1, x0), (1, x1), (1, x2)]) [] M ((9, 0), r) := by
  change Sem g d YX31_answered 0 [(1, x0), (1, x1), (1, x2)] [] M ((9, 0), r)
  exact s_X31_answered_0 hD hR (P := fun x => x = r) (fun q e => by rw [e]) h rfl
/-! PeerSearch$Asking.check(LPeerSearch$Work;)V -/
theorem dX31_check_0 : decode cX31_check 0 = .ok (.aload_n 0, 1) := by decide +kernel
theorem dX31_check_1 : decode cX31_check 1 = .ok (.iconst 2, 1) := by decide +kernel
theorem dX31_check_2 : decode cX31_check 2 = .ok (.putfield 108, 3) := by decide +kernel
theorem dX31_check_5 : decode cX31_check 5 = .ok (.aload_n 0, 1) := by decide +kernel
theorem dX31_check_6 : decode cX31_check 6 = .ok (.getfield 27, 3) := by decide +kernel
theorem dX31_check_9 : decode cX31_check 9 = .ok (.aload_n 0, 1) := by decide +kernel
theorem dX31_check_10 : decode cX31_check 10 = .ok (.getfield 85, 3) := by decide +kernel
theorem dX31_check_13 : decode cX31_check 13 = .ok (.ifCond .ne 7, 3) := by decide +kernel
theorem dX31_check_16 : decode cX31_check 16 = .ok (.iconst 0, 1) := by decide +kernel
theorem dX31_check_17 : decode cX31_check 17 = .ok (.goto 4, 3) := by decide +kernel
theorem dX31_check_20 : decode cX31_check 20 = .ok (.iconst 2, 1) := by decide +kernel
theorem dX31_check_21 : decode cX31_check 21 = .ok (.iaload, 1) := by decide +kernel
theorem dX31_check_22 : decode cX31_check 22 = .ok (.istore_n 2, 1) := by decide +kernel
theorem dX31_check_23 : decode cX31_check 23 = .ok (.aload_n 1, 1) := by decide +kernel
theorem dX31_check_24 : decode cX31_check 24 = .ok (.getfield 111, 3) := by decide +kernel
theorem dX31_check_27 : decode cX31_check 27 = .ok (.bipush 13, 2) := by decide +kernel
theorem dX31_check_29 : decode cX31_check 29 = .ok (.invokevirtual 115, 3) := by decide +kernel
theorem dX31_check_32 : decode cX31_check 32 = .ok (.astore_n 3, 1) := by decide +kernel
theorem dX31_check_33 : decode cX31_check 33 = .ok (.aload_n 3, 1) := by decide +kernel
theorem dX31_check_34 : decode cX31_check 34 = .ok (.aload_n 0, 1) := by decide +kernel
theorem dX31_check_35 : decode cX31_check 35 = .ok (.getfield 11, 3) := by decide +kernel
theorem dX31_check_38 : decode cX31_check 38 = .ok (.iload_n 2, 1) := by decide +kernel
theorem dX31_check_39 : decode cX31_check 39 = .ok (.aaload, 1) := by decide +kernel
theorem dX31_check_40 : decode cX31_check 40 = .ok (.invokevirtual 121, 3) := by decide +kernel
theorem dX31_check_43 : decode cX31_check 43 = .ok (.bipush 30, 2) := by decide +kernel
theorem dX31_check_45 : decode cX31_check 45 = .ok (.aload_n 0, 1) := by decide +kernel
theorem dX31_check_46 : decode cX31_check 46 = .ok (.getfield 79, 3) := by decide +kernel
theorem dX31_check_49 : decode cX31_check 49 = .ok (.aload_n 0, 1) := by decide +kernel
theorem dX31_check_50 : decode cX31_check 50 = .ok (.getfield 212, 3) := by decide +kernel
theorem dX31_check_53 : decode cX31_check 53 = .ok (.isub, 1) := by decide +kernel
theorem dX31_check_54 : decode cX31_check 54 = .ok (.invokestatic 215, 3) := by decide +kernel
theorem dX31_check_57 : decode cX31_check 57 = .ok (.istore 4, 2) := by decide +kernel
theorem dX31_check_59 : decode cX31_check 59 = .ok (.aload_n 3, 1) := by decide +kernel
theorem dX31_check_60 : decode cX31_check 60 = .ok (.iload 4, 2) := by decide +kernel
theorem dX31_check_62 : decode cX31_check 62 = .ok (.iconst 1, 1) := by decide +kernel
theorem dX31_check_63 : decode cX31_check 63 = .ok (.invokevirtual 205, 3) := by decide +kernel
theorem dX31_check_66 : decode cX31_check 66 = .ok (.aload_n 0, 1) := by decide +kernel
theorem dX31_check_67 : decode cX31_check 67 = .ok (.getfield 212, 3) := by decide +kernel
theorem dX31_check_70 : decode cX31_check 70 = .ok (.istore 5, 2) := by decide +kernel
theorem dX31_check_72 : decode cX31_check 72 = .ok (.iload 5, 2) := by decide +kernel
theorem dX31_check_74 : decode cX31_check 74 = .ok (.aload_n 0, 1) := by decide +kernel
theorem dX31_check_75 : decode cX31_check 75 = .ok (.getfield 212, 3) := by decide +kernel
theorem dX31_check_78 : decode cX31_check 78 = .ok (.iload 4, 2) := by decide +kernel
theorem dX31_check_80 : decode cX31_check 80 = .ok (.iadd, 1) := by decide +kernel
theorem dX31_check_81 : decode cX31_check 81 = .ok (.if_icmp .ge 33, 3) := by decide +kernel
theorem dX31_check_84 : decode cX31_check 84 = .ok (.aload_n 3, 1) := by decide +kernel
theorem dX31_check_85 : decode cX31_check 85 = .ok (.aload_n 0, 1) := by decide +kernel
theorem dX31_check_86 : decode cX31_check 86 = .ok (.getfield 30, 3) := by decide +kernel
theorem dX31_check_89 : decode cX31_check 89 = .ok (.iload 5, 2) := by decide +kernel
theorem dX31_check_91 : decode cX31_check 91 = .ok (.iaload, 1) := by decide +kernel
theorem dX31_check_92 : decode cX31_check 92 = .ok (.iconst 1, 1) := by decide +kernel
theorem dX31_check_93 : decode cX31_check 93 = .ok (.invokevirtual 205, 3) := by decide +kernel
theorem dX31_check_96 : decode cX31_check 96 = .ok (.aload_n 3, 1) := by decide +kernel
theorem dX31_check_97 : decode cX31_check 97 = .ok (.aload_n 0, 1) := by decide +kernel
theorem dX31_check_98 : decode cX31_check 98 = .ok (.getfield 33, 3) := by decide +kernel
theorem dX31_check_101 : decode cX31_check 101 = .ok (.iload 5, 2) := by decide +kernel
theorem dX31_check_103 : decode cX31_check 103 = .ok (.iaload, 1) := by decide +kernel
theorem dX31_check_104 : decode cX31_check 104 = .ok (.iconst 1, 1) := by decide +kernel
theorem dX31_check_105 : decode cX31_check 105 = .ok (.invokevirtual 205, 3) := by decide +kernel
theorem dX31_check_108 : decode cX31_check 108 = .ok (.iinc 5 1, 3) := by decide +kernel
theorem dX31_check_111 : decode cX31_check 111 = .ok (.goto (-39), 3) := by decide +kernel
theorem dX31_check_114 : decode cX31_check 114 = .ok (.aload_n 0, 1) := by decide +kernel
theorem dX31_check_115 : decode cX31_check 115 = .ok (.aload_n 1, 1) := by decide +kernel
theorem dX31_check_116 : decode cX31_check 116 = .ok (.iload_n 2, 1) := by decide +kernel
theorem dX31_check_117 : decode cX31_check 117 = .ok (.invokevirtual 126, 3) := by decide +kernel
theorem dX31_check_120 : decode cX31_check 120 = .ok (.return_, 1) := by decide +kernel
def j_X31_check_114 (R : Nat → Int → Int → Int → MM → Option MM) (x0 x1 x2 : Int) (M : MM) : Option (MM) :=
  ck 31 x0 M <| (R 3 x0 x1 x2 M).bind fun M1 =>
  some M1
def b_X31_check_72 (R : Nat → Int → Int → Int → MM → Option MM) (x0 x1 x2 x3 x4 x5 : Int) (M : MM) : Option ((Int × MM) ⊕ (MM)) :=
  (gfi 31 16 x0 M).bind fun v1 =>
  if w32 x5 < w32 (v1 + x4) then
    (gfr 31 9 x0 M).bind fun v2 =>
    (lai v2 x5 M).bind fun v3 =>
    ck 4 x3 M <| (f_X4_put x3 v3 1 M).bind fun M1 =>
    (gfr 31 10 x0 M1).bind fun v4 =>
    (lai v4 x5 M1).bind fun v5 =>
    ck 4 x3 M1 <| (f_X4_put x3 v5 1 M1).bind fun M2 =>
    cnt (x5 + 1, M2)
  else
    xit (j_X31_check_114 R x0 x1 x2 M)
def l_X31_check_72 (R : Nat → Int → Int → Int → MM → Option MM) (x0 x1 x2 x3 x4 x5 : Int) (M : MM) : Option (MM) := lpN (fun s : Int × MM => b_X31_check_72 R x0 x1 x2 x3 x4 s.1 s.2) FU (x5, M)
def j_X31_check_21 (R : Nat → Int → Int → Int → MM → Option MM) (x0 x1 y0 y1 : Int) (M : MM) : Option (MM) :=
  (lai y0 y1 M).bind fun v1 =>
  (gfr 11 2 x1 M).bind fun v2 =>
  ck 17 v2 M <| (f_X17_begin v2 13 M).bind fun r1 =>
  (gfr 31 0 x0 r1.2).bind fun v3 =>
  (lar 13 v3 v1 r1.2).bind fun v4 =>
  ck 4 r1.1 r1.2 <| (f_X4_putKey r1.1 v4 r1.2).bind fun M1 =>
  (gfi 31 13 x0 M1).bind fun v5 =>
  (gfi 31 16 x0 M1).bind fun v6 =>
  ck 4 r1.1 M1 <| (f_X4_put r1.1 (jmin 30 (v5 - v6)) 1 M1).bind fun M2 =>
  (gfi 31 16 x0 M2).bind fun v7 =>
  l_X31_check_72 R x0 x1 v1 r1.1 (jmin 30 (v5 - v6)) v7 M2
def f_X31_check (R : Nat → Int → Int → Int → MM → Option MM) (x0 x1 : Int) (M : MM) : Option (MM) :=
  (pfi 31 7 x0 2 M).bind fun M1 =>
  (gfr 31 4 x0 M1).bind fun v1 =>
  (gfi 31 15 x0 M1).bind fun v2 =>
  if w32 v2 = 0 then
    j_X31_check_21 R x0 x1 v1 0 M1
  else
    j_X31_check_21 R x0 x1 v1 2 M1
theorem s_X31_check_114 {g : GG} {d : Nat} (hD : 10 ≤ d) {R : Nat → Int → Int → Int → MM → Option MM} (hR : RH g d R) {x0 x1 x2 : Int} {M : MM} {o : AV × MM} {P : (MM) → Prop} (r0 : ∀ r : MM, P r → o = ((9, 0), r)) {z : MM} (h : j_X31_check_114 R x0 x1 x2 M = some z) (hz : P z) : Sem g d YX31_check 114 [(1, x0), (1, x1), (0, x2), (9, 0), (9, 0), (9, 0)] [] M o := by
  delta j_X31_check_114 at h
  refine S_aload_n (i := 0) dX31_check_114 rfl rfl ?_
  refine S_aload_n (i := 1) dX31_check_115 rfl rfl ?_
  refine S_iload_n (i := 2) dX31_check_116 rfl rfl ?_
  refine P_invVm' [(1, x1), (0, x2)] [] CVX31_consult MLX31_126 dX31_check_117 rfl rfl rfl rfl (by omega) h (fun r h => hR.2.2.2.1 _ _ _ _ _ h) (fun M1 h => ?_)
  obtain rfl := r0 _ (some_P (P := fun r => P r) h hz)
  exact S_return dX31_check_120 rfl
theorem s_X31_check_72 {g : GG} {d : Nat} (hD : 10 ≤ d) {R : Nat → Int → Int → Int → MM → Option MM} (hR : RH g d R) {x0 x1 x2 x3 x4 x5 : Int} {M : MM} {o : AV × MM} {P : ((Int × MM) ⊕ (MM)) → Prop} (c0 : ∀ s : Int × MM, P (.inl s) → Sem g d YX31_check 72 [(1, x0), (1, x1), (0, x2), (1, x3), (0, x4), (0, s.1)] [] s.2 o) (r0 : ∀ r : MM, P (.inr r) → o = ((9, 0), r)) {z : (Int × MM) ⊕ (MM)} (h : b_X31_check_72 R x0 x1 x2 x3 x4 x5 M = some z) (hz : P z) : Sem g d YX31_check 72 [(1, x0), (1, x1), (0, x2), (1, x3), (0, x4), (0, x5)] [] M o := by
  delta b_X31_check_72 at h
  refine S_iload dX31_check_72 rfl ?_
  refine S_aload_n (i := 0) dX31_check_74 rfl rfl ?_
  refine P_gfi FLX31_212 rfl dX31_check_75 h (fun v1 h => ?_)
  refine S_iload dX31_check_78 rfl ?_
  refine S_iadd dX31_check_80 ?_
  refine P_icmp_ge (tgt := 114) dX31_check_81 rfl h (fun h => ?_) (fun h => ?_)
  · refine S_weak (ls' := [(1, x0), (1, x1), (0, x2), (9, 0), (9, 0), (9, 0)]) ⟨Or.inr rfl, ⟨Or.inr rfl, ⟨Or.inr rfl, ⟨Or.inl rfl, ⟨Or.inl rfl, ⟨Or.inl rfl, trivial⟩⟩⟩⟩⟩⟩ ?_
    obtain ⟨z0, h, hz⟩ := xit_some' (P := fun r => P r) h hz
    exact s_X31_check_114 hD hR (P := fun r => P (.inr r)) r0 h hz
  · refine S_aload_n (i := 3) dX31_check_84 rfl rfl ?_
    refine S_aload_n (i := 0) dX31_check_85 rfl rfl ?_
    refine P_gfr FLX31_30 rfl dX31_check_86 h (fun v2 h => ?_)
    refine S_iload dX31_check_89 rfl ?_
    refine P_lai dX31_check_91 h (fun v3 h => ?_)
    refine S_iconst dX31_check_92 rfl ?_
    refine P_invVm' [(0, v3), (0, 1)] [] CVX4_put MLX31_205 dX31_check_93 rfl rfl rfl rfl (by omega) h (fun r h => F_X4_put (by omega) h) (fun M1 h => ?_)
    refine S_aload_n (i := 3) dX31_check_96 rfl rfl ?_
    refine S_aload_n (i := 0) dX31_check_97 rfl rfl ?_
    refine P_gfr FLX31_33 rfl dX31_check_98 h (fun v4 h => ?_)
    refine S_iload dX31_check_101 rfl ?_
    refine P_lai dX31_check_103 h (fun v5 h => ?_)
    refine S_iconst dX31_check_104 rfl ?_
    refine P_invVm' [(0, v5), (0, 1)] [] CVX4_put MLX31_205 dX31_check_105 rfl rfl rfl rfl (by omega) h (fun r h => F_X4_put (by omega) h) (fun M2 h => ?_)
    refine S_iinc dX31_check_108 rfl rfl rfl ?_
    change Sem g d YX31_check 111 [(1, x0), (1, x1), (0, x2), (1, x3), (0, x4), (0, x5 + 1)] [] M2 o
    refine S_goto (tgt := 72) dX31_check_111 rfl ?_
    exact c0 (x5 + 1, M2) (some_P (P := fun r => P r) h hz)
theorem sl_X31_check_72 {g : GG} {d : Nat} (hD : 10 ≤ d) {R : Nat → Int → Int → Int → MM → Option MM} (hR : RH g d R) {x0 x1 x2 x3 x4 x5 : Int} {M : MM} {o : AV × MM} {P : (MM) → Prop} (r0 : ∀ r : MM, P r → o = ((9, 0), r)) {z : MM} (h : l_X31_check_72 R x0 x1 x2 x3 x4 x5 M = some z) (hz : P z) : Sem g d YX31_check 72 [(1, x0), (1, x1), (0, x2), (1, x3), (0, x4), (0, x5)] [] M o := by
  refine lp_sound (S := fun s : Int × MM => Sem g d YX31_check 72 [(1, x0), (1, x1), (0, x2), (1, x3), (0, x4), (0, s.1)] [] s.2 o) (P := P) ?_ FU (x5, M) z h hz
  intro s x hx hP
  exact s_X31_check_72 hD hR (P := Sum.elim (fun s : Int × MM => Sem g d YX31_check 72 [(1, x0), (1, x1), (0, x2), (1, x3), (0, x4), (0, s.1)] [] s.2 o) P) (fun s h => h) (fun s h => r0 s h) hx hP
theorem s_X31_check_21 {g : GG} {d : Nat} (hD : 10 ≤ d) {R : Nat → Int → Int → Int → MM → Option MM} (hR : RH g d R) {x0 x1 y0 y1 : Int} {M : MM} {o : AV × MM} {P : (MM) → Prop} (r0 : ∀ r : MM, P r → o = ((9, 0), r)) {z : MM} (h : j_X31_check_21 R x0 x1 y0 y1 M = some z) (hz : P z) : Sem g d YX31_check 21 [(1, x0), (1, x1), (9, 0), (9, 0), (9, 0), (9, 0)] [(0, y1), (1, y0)] M o := by
  delta j_X31_check_21 at h
  refine P_lai dX31_check_21 h (fun v1 h => ?_)
  refine S_istore_n (i := 2) dX31_check_22 rfl (Nat.le_of_ble_eq_true rfl) rfl rfl ?_
  change Sem g d YX31_check 23 [(1, x0), (1, x1), (0, v1), (9, 0), (9, 0), (9, 0)] [] M o
  refine S_aload_n (i := 1) dX31_check_23 rfl rfl ?_
  refine P_gfr FLX31_111 rfl dX31_check_24 h (fun v2 h => ?_)
  refine S_bipush (z := 13) dX31_check_27 rfl ?_
  refine P_invVe 1 [(0, 13)] [] CVX17_begin MLX31_115 dX31_check_29 rfl rfl rfl rfl rfl (by omega) h (fun r h => F_X17_begin (by omega) h) (fun r1 h => ?_)
  refine S_astore_n (i := 3) dX31_check_32 rfl (Nat.le_of_ble_eq_true rfl) rfl rfl ?_
  change Sem g d YX31_check 33 [(1, x0), (1, x1), (0, v1), (1, r1.1), (9, 0), (9, 0)] [] r1.2 o
  refine S_aload_n (i := 3) dX31_check_33 rfl rfl ?_
  refine S_aload_n (i := 0) dX31_check_34 rfl rfl ?_
  refine P_gfr FLX31_11 rfl dX31_check_35 h (fun v3 h => ?_)
  refine S_iload_n (i := 2) dX31_check_38 rfl rfl ?_
  refine P_lar (t := 13) ⟨by decide, by decide⟩ dX31_check_39 h (fun v4 h => ?_)
  refine P_invVm' [(1, v4)] [] CVX4_putKey MLX31_121 dX31_check_40 rfl rfl rfl rfl (by omega) h (fun r h => F_X4_putKey (by omega) h) (fun M1 h => ?_)
  refine S_bipush (z := 30) dX31_check_43 rfl ?_
  refine S_aload_n (i := 0) dX31_check_45 rfl rfl ?_
  refine P_gfi FLX31_79 rfl dX31_check_46 h (fun v5 h => ?_)
  refine S_aload_n (i := 0) dX31_check_49 rfl rfl ?_
  refine P_gfi FLX31_212 rfl dX31_check_50 h (fun v6 h => ?_)
  refine S_isub dX31_check_53 ?_
  refine S_min q1595 dX31_check_54 rfl (by omega) ?_
  refine S_istore dX31_check_57 (Nat.le_of_ble_eq_true rfl) rfl rfl ?_
  change Sem g d YX31_check 59 [(1, x0), (1, x1), (0, v1), (1, r1.1), (0, jmin 30 (v5 - v6)), (9, 0)] [] M1 o
  refine S_aload_n (i := 3) dX31_check_59 rfl rfl ?_
  refine S_iload dX31_check_60 rfl ?_
  refine S_iconst dX31_check_62 rfl ?_
  refine P_invVm' [(0, jmin 30 (v5 - v6)), (0, 1)] [] CVX4_put MLX31_205 dX31_check_63 rfl rfl rfl rfl (by omega) h (fun r h => F_X4_put (by omega) h) (fun M2 h => ?_)
  refine S_aload_n (i := 0) dX31_check_66 rfl rfl ?_
  refine P_gfi FLX31_212 rfl dX31_check_67 h (fun v7 h => ?_)
  refine S_istore dX31_check_70 (Nat.le_of_ble_eq_true rfl) rfl rfl ?_
  change Sem g d YX31_check 72 [(1, x0), (1, x1), (0, v1), (1, r1.1), (0, jmin 30 (v5 - v6)), (0, v7)] [] M2 o
  exact sl_X31_check_72 hD hR r0 h hz
theorem s_X31_check_0 {g : GG} {d : Nat} (hD : 10 ≤ d) {R : Nat → Int → Int → Int → MM → Option MM} (hR : RH g d R) {x0 x1 : Int} {M : MM} {o : AV × MM} {P : (MM) → Prop} (r0 : ∀ r : MM, P r → o = ((9, 0), r)) {z : MM} (h : f_X31_check R x0 x1 M = some z) (hz : P z) : Sem g d YX31_check 0 [(1, x0), (1, x1), (9, 0), (9, 0), (9, 0), (9, 0)] [] M o := by
  delta f_X31_check at h
  refine S_aload_n (i := 0) dX31_check_0 rfl rfl ?_
  refine S_iconst dX31_check_1 rfl ?_
  refine P_pfi FLX31_108 FPX31_108 rfl dX31_check_2 h (fun M1 h => ?_)
  refine S_aload_n (i := 0) dX31_check_5 rfl rfl ?_
  refine P_gfr FLX31_27 rfl dX31_check_6 h (fun v1 h => ?_)
  refine S_aload_n (i := 0) dX31_check_9 rfl rfl ?_
  refine P_gfi FLX31_85 rfl dX31_check_10 h (fun v2 h => ?_)
  refine P_if_ne (tgt := 20) dX31_check_13 rfl h (fun h => ?_) (fun h => ?_)
  · refine S_iconst dX31_check_20 rfl ?_
    exact s_X31_check_21 hD hR r0 h hz
  · refine S_iconst dX31_check_16 rfl ?_
    refine S_goto (tgt := 21) dX31_check_17 rfl ?_
    exact s_X31_check_21 hD hR r0 h hz
theorem Fr_X31_check {g : GG} {d : Nat} (hD : 10 ≤ d) {R : Nat → Int → Int → Int → MM → Option MM} (hR : RH g d R) {x0 x1 : Int} {M : MM} {r : MM} (h : f_X31_check R x0 x1 M = some r) : Sem g d YX31_check 0 (ini YX31_check [(1, x0), (1, x1)]) [] M ((9, 0), r) := by
  change Sem g d YX31_check 0 [(1, x0), (1, x1), (9, 0), (9, 0), (9, 0), (9, 0)] [] M ((9, 0), r)
  exact s_X31_check_0 hD hR (P := fun x => x = r) (fun q e => by rw [e]) h rfl
/-! PeerSearch$Asking.checked(LPeerSearch$Work;LPeerSearch$Packet;)V -/
theorem dX31_checked_0 : decode cX31_checked 0 = .ok (.aload_n 0, 1) := by decide +kernel
theorem dX31_checked_1 : decode cX31_checked 1 = .ok (.getfield 212, 3) := by decide +kernel
theorem dX31_checked_4 : decode cX31_checked 4 = .ok (.bipush 30, 2) := by decide +kernel
theorem dX31_checked_6 : decode cX31_checked 6 = .ok (.iadd, 1) := by decide +kernel
theorem dX31_checked_7 : decode cX31_checked 7 = .ok (.aload_n 0, 1) := by decide +kernel
theorem dX31_checked_8 : decode cX31_checked 8 = .ok (.getfield 79, 3) := by decide +kernel
theorem dX31_checked_11 : decode cX31_checked 11 = .ok (.invokestatic 215, 3) := by decide +kernel
theorem dX31_checked_14 : decode cX31_checked 14 = .ok (.istore_n 3, 1) := by decide +kernel
theorem dX31_checked_15 : decode cX31_checked 15 = .ok (.aload_n 0, 1) := by decide +kernel
theorem dX31_checked_16 : decode cX31_checked 16 = .ok (.getfield 212, 3) := by decide +kernel
theorem dX31_checked_19 : decode cX31_checked 19 = .ok (.istore 4, 2) := by decide +kernel
theorem dX31_checked_21 : decode cX31_checked 21 = .ok (.iload 4, 2) := by decide +kernel
theorem dX31_checked_23 : decode cX31_checked 23 = .ok (.iload_n 3, 1) := by decide +kernel
theorem dX31_checked_24 : decode cX31_checked 24 = .ok (.if_icmp .ge 17, 3) := by decide +kernel
theorem dX31_checked_27 : decode cX31_checked 27 = .ok (.aload_n 0, 1) := by decide +kernel
theorem dX31_checked_28 : decode cX31_checked 28 = .ok (.getfield 39, 3) := by decide +kernel
theorem dX31_checked_31 : decode cX31_checked 31 = .ok (.iload 4, 2) := by decide +kernel
theorem dX31_checked_33 : decode cX31_checked 33 = .ok (.iconst 0, 1) := by decide +kernel
theorem dX31_checked_34 : decode cX31_checked 34 = .ok (.bastore, 1) := by decide +kernel
theorem dX31_checked_35 : decode cX31_checked 35 = .ok (.iinc 4 1, 3) := by decide +kernel
theorem dX31_checked_38 : decode cX31_checked 38 = .ok (.goto (-17), 3) := by decide +kernel
theorem dX31_checked_41 : decode cX31_checked 41 = .ok (.aload_n 2, 1) := by decide +kernel
theorem dX31_checked_42 : decode cX31_checked 42 = .ok (.bipush 25, 2) := by decide +kernel
theorem dX31_checked_44 : decode cX31_checked 44 = .ok (.iconst 1, 1) := by decide +kernel
theorem dX31_checked_45 : decode cX31_checked 45 = .ok (.invokevirtual 231, 3) := by decide +kernel
theorem dX31_checked_48 : decode cX31_checked 48 = .ok (.istore 4, 2) := by decide +kernel
theorem dX31_checked_50 : decode cX31_checked 50 = .ok (.iconst 0, 1) := by decide +kernel
theorem dX31_checked_51 : decode cX31_checked 51 = .ok (.istore 5, 2) := by decide +kernel
theorem dX31_checked_53 : decode cX31_checked 53 = .ok (.iload 5, 2) := by decide +kernel
theorem dX31_checked_55 : decode cX31_checked 55 = .ok (.iload 4, 2) := by decide +kernel
theorem dX31_checked_57 : decode cX31_checked 57 = .ok (.if_icmp .ge 91, 3) := by decide +kernel
theorem dX31_checked_60 : decode cX31_checked 60 = .ok (.bipush 26, 2) := by decide +kernel
theorem dX31_checked_62 : decode cX31_checked 62 = .ok (.iconst 3, 1) := by decide +kernel
theorem dX31_checked_63 : decode cX31_checked 63 = .ok (.iload 5, 2) := by decide +kernel
theorem dX31_checked_65 : decode cX31_checked 65 = .ok (.imul, 1) := by decide +kernel
theorem dX31_checked_66 : decode cX31_checked 66 = .ok (.iadd, 1) := by decide +kernel
theorem dX31_checked_67 : decode cX31_checked 67 = .ok (.istore 6, 2) := by decide +kernel
theorem dX31_checked_69 : decode cX31_checked 69 = .ok (.aload_n 0, 1) := by decide +kernel
theorem dX31_checked_70 : decode cX31_checked 70 = .ok (.aload_n 2, 1) := by decide +kernel
theorem dX31_checked_71 : decode cX31_checked 71 = .ok (.iload 6, 2) := by decide +kernel
theorem dX31_checked_73 : decode cX31_checked 73 = .ok (.iconst 1, 1) := by decide +kernel
theorem dX31_checked_74 : decode cX31_checked 74 = .ok (.invokevirtual 231, 3) := by decide +kernel
theorem dX31_checked_77 : decode cX31_checked 77 = .ok (.aload_n 2, 1) := by decide +kernel
theorem dX31_checked_78 : decode cX31_checked 78 = .ok (.iload 6, 2) := by decide +kernel
theorem dX31_checked_80 : decode cX31_checked 80 = .ok (.iconst 1, 1) := by decide +kernel
theorem dX31_checked_81 : decode cX31_checked 81 = .ok (.iadd, 1) := by decide +kernel
theorem dX31_checked_82 : decode cX31_checked 82 = .ok (.iconst 1, 1) := by decide +kernel
theorem dX31_checked_83 : decode cX31_checked 83 = .ok (.invokevirtual 231, 3) := by decide +kernel
theorem dX31_checked_86 : decode cX31_checked 86 = .ok (.aload_n 0, 1) := by decide +kernel
theorem dX31_checked_87 : decode cX31_checked 87 = .ok (.getfield 212, 3) := by decide +kernel
theorem dX31_checked_90 : decode cX31_checked 90 = .ok (.iload_n 3, 1) := by decide +kernel
theorem dX31_checked_91 : decode cX31_checked 91 = .ok (.invokevirtual 234, 3) := by decide +kernel
theorem dX31_checked_94 : decode cX31_checked 94 = .ok (.istore 7, 2) := by decide +kernel
theorem dX31_checked_96 : decode cX31_checked 96 = .ok (.iload 7, 2) := by decide +kernel
theorem dX31_checked_98 : decode cX31_checked 98 = .ok (.iconst (-1), 1) := by decide +kernel
theorem dX31_checked_99 : decode cX31_checked 99 = .ok (.if_icmp .eq 43, 3) := by decide +kernel
theorem dX31_checked_102 : decode cX31_checked 102 = .ok (.aload_n 0, 1) := by decide +kernel
theorem dX31_checked_103 : decode cX31_checked 103 = .ok (.getfield 39, 3) := by decide +kernel
theorem dX31_checked_106 : decode cX31_checked 106 = .ok (.iload 7, 2) := by decide +kernel
theorem dX31_checked_108 : decode cX31_checked 108 = .ok (.baload, 1) := by decide +kernel
theorem dX31_checked_109 : decode cX31_checked 109 = .ok (.ifCond .eq 6, 3) := by decide +kernel
theorem dX31_checked_112 : decode cX31_checked 112 = .ok (.goto 30, 3) := by decide +kernel
theorem dX31_checked_115 : decode cX31_checked 115 = .ok (.aload_n 0, 1) := by decide +kernel
theorem dX31_checked_116 : decode cX31_checked 116 = .ok (.getfield 39, 3) := by decide +kernel
theorem dX31_checked_119 : decode cX31_checked 119 = .ok (.iload 7, 2) := by decide +kernel
theorem dX31_checked_121 : decode cX31_checked 121 = .ok (.iconst 1, 1) := by decide +kernel
theorem dX31_checked_122 : decode cX31_checked 122 = .ok (.bastore, 1) := by decide +kernel
theorem dX31_checked_123 : decode cX31_checked 123 = .ok (.aload_n 0, 1) := by decide +kernel
theorem dX31_checked_124 : decode cX31_checked 124 = .ok (.getfield 36, 3) := by decide +kernel
theorem dX31_checked_127 : decode cX31_checked 127 = .ok (.iload 7, 2) := by decide +kernel
theorem dX31_checked_129 : decode cX31_checked 129 = .ok (.dup2, 1) := by decide +kernel
theorem dX31_checked_130 : decode cX31_checked 130 = .ok (.iaload, 1) := by decide +kernel
theorem dX31_checked_131 : decode cX31_checked 131 = .ok (.aload_n 2, 1) := by decide +kernel
theorem dX31_checked_132 : decode cX31_checked 132 = .ok (.iload 6, 2) := by decide +kernel
theorem dX31_checked_134 : decode cX31_checked 134 = .ok (.iconst 2, 1) := by decide +kernel
theorem dX31_checked_135 : decode cX31_checked 135 = .ok (.iadd, 1) := by decide +kernel
theorem dX31_checked_136 : decode cX31_checked 136 = .ok (.iconst 1, 1) := by decide +kernel
theorem dX31_checked_137 : decode cX31_checked 137 = .ok (.invokevirtual 231, 3) := by decide +kernel
theorem dX31_checked_140 : decode cX31_checked 140 = .ok (.iadd, 1) := by decide +kernel
theorem dX31_checked_141 : decode cX31_checked 141 = .ok (.iastore, 1) := by decide +kernel
theorem dX31_checked_142 : decode cX31_checked 142 = .ok (.iinc 5 1, 3) := by decide +kernel
theorem dX31_checked_145 : decode cX31_checked 145 = .ok (.goto (-92), 3) := by decide +kernel
theorem dX31_checked_148 : decode cX31_checked 148 = .ok (.aload_n 0, 1) := by decide +kernel
theorem dX31_checked_149 : decode cX31_checked 149 = .ok (.iload_n 3, 1) := by decide +kernel
theorem dX31_checked_150 : decode cX31_checked 150 = .ok (.putfield 212, 3) := by decide +kernel
theorem dX31_checked_153 : decode cX31_checked 153 = .ok (.aload_n 0, 1) := by decide +kernel
theorem dX31_checked_154 : decode cX31_checked 154 = .ok (.getfield 212, 3) := by decide +kernel
theorem dX31_checked_157 : decode cX31_checked 157 = .ok (.aload_n 0, 1) := by decide +kernel
theorem dX31_checked_158 : decode cX31_checked 158 = .ok (.getfield 79, 3) := by decide +kernel
theorem dX31_checked_161 : decode cX31_checked 161 = .ok (.if_icmp .ne 22, 3) := by decide +kernel
theorem dX31_checked_164 : decode cX31_checked 164 = .ok (.aload_n 0, 1) := by decide +kernel
theorem dX31_checked_165 : decode cX31_checked 165 = .ok (.invokevirtual 241, 3) := by decide +kernel
theorem dX31_checked_168 : decode cX31_checked 168 = .ok (.aload_n 0, 1) := by decide +kernel
theorem dX31_checked_169 : decode cX31_checked 169 = .ok (.dup, 1) := by decide +kernel
theorem dX31_checked_170 : decode cX31_checked 170 = .ok (.getfield 85, 3) := by decide +kernel
theorem dX31_checked_173 : decode cX31_checked 173 = .ok (.iconst 1, 1) := by decide +kernel
theorem dX31_checked_174 : decode cX31_checked 174 = .ok (.iadd, 1) := by decide +kernel
theorem dX31_checked_175 : decode cX31_checked 175 = .ok (.putfield 85, 3) := by decide +kernel
theorem dX31_checked_178 : decode cX31_checked 178 = .ok (.aload_n 0, 1) := by decide +kernel
theorem dX31_checked_179 : decode cX31_checked 179 = .ok (.iconst 0, 1) := by decide +kernel
theorem dX31_checked_180 : decode cX31_checked 180 = .ok (.putfield 212, 3) := by decide +kernel
theorem dX31_checked_183 : decode cX31_checked 183 = .ok (.aload_n 0, 1) := by decide +kernel
theorem dX31_checked_184 : decode cX31_checked 184 = .ok (.getfield 79, 3) := by decide +kernel
theorem dX31_checked_187 : decode cX31_checked 187 = .ok (.ifCond .eq 16, 3) := by decide +kernel
theorem dX31_checked_190 : decode cX31_checked 190 = .ok (.aload_n 0, 1) := by decide +kernel
theorem dX31_checked_191 : decode cX31_checked 191 = .ok (.getfield 85, 3) := by decide +kernel
theorem dX31_checked_194 : decode cX31_checked 194 = .ok (.aload_n 0, 1) := by decide +kernel
theorem dX31_checked_195 : decode cX31_checked 195 = .ok (.getfield 68, 3) := by decide +kernel
theorem dX31_checked_198 : decode cX31_checked 198 = .ok (.iconst 1, 1) := by decide +kernel
theorem dX31_checked_199 : decode cX31_checked 199 = .ok (.isub, 1) := by decide +kernel
theorem dX31_checked_200 : decode cX31_checked 200 = .ok (.if_icmp .ne 11, 3) := by decide +kernel
theorem dX31_checked_203 : decode cX31_checked 203 = .ok (.aload_n 0, 1) := by decide +kernel
theorem dX31_checked_204 : decode cX31_checked 204 = .ok (.aload_n 1, 1) := by decide +kernel
theorem dX31_checked_205 : decode cX31_checked 205 = .ok (.invokevirtual 98, 3) := by decide +kernel
theorem dX31_checked_208 : decode cX31_checked 208 = .ok (.goto 8, 3) := by decide +kernel
theorem dX31_checked_211 : decode cX31_checked 211 = .ok (.aload_n 0, 1) := by decide +kernel
theorem dX31_checked_212 : decode cX31_checked 212 = .ok (.aload_n 1, 1) := by decide +kernel
theorem dX31_checked_213 : decode cX31_checked 213 = .ok (.invokevirtual 238, 3) := by decide +kernel
theorem dX31_checked_216 : decode cX31_checked 216 = .ok (.return_, 1) := by decide +kernel
def j_X31_checked_216 (R : Nat → Int → Int → Int → MM → Option MM) (M : MM) : Option (MM) :=
  some M
def j_X31_checked_203 (R : Nat → Int → Int → Int → MM → Option MM) (x0 x1 : Int) (M : MM) : Option (MM) :=
  ck 31 x0 M <| (f_X31_finish x0 x1 M).bind fun M1 =>
  j_X31_checked_216 R M1
def j_X31_checked_183 (R : Nat → Int → Int → Int → MM → Option MM) (x0 x1 : Int) (M : MM) : Option (MM) :=
  (gfi 31 13 x0 M).bind fun v1 =>
  if w32 v1 = 0 then
    j_X31_checked_203 R x0 x1 M
  else
    (gfi 31 15 x0 M).bind fun v2 =>
    (gfi 31 5 x0 M).bind fun v3 =>
    if w32 v2 = w32 (v3 - 1) then
      j_X31_checked_203 R x0 x1 M
    else
      ck 31 x0 M <| (R 1 x0 x1 0 M).bind fun M1 =>
      j_X31_checked_216 R M1
def j_X31_checked_148 (R : Nat → Int → Int → Int → MM → Option MM) (x0 x1 x3 : Int) (M : MM) : Option (MM) :=
  (pfi 31 16 x0 x3 M).bind fun M1 =>
  (gfi 31 16 x0 M1).bind fun v1 =>
  (gfi 31 13 x0 M1).bind fun v2 =>
  if w32 v1 = w32 v2 then
    ck 31 x0 M1 <| (f_X31_sift x0 M1).bind fun M2 =>
    (gfi 31 15 x0 M2).bind fun v3 =>
    (pfi 31 15 x0 (v3 + 1) M2).bind fun M3 =>
    (pfi 31 16 x0 0 M3).bind fun M4 =>
    j_X31_checked_183 R x0 x1 M4
  else
    j_X31_checked_183 R x0 x1 M1
def j_X31_checked_142 (R : Nat → Int → Int → Int → MM → Option MM) (x0 x1 x2 x3 x4 x5 : Int) (M : MM) : Option ((Int × MM) ⊕ (MM)) :=
  cnt (x5 + 1, M)
def b_X31_checked_53 (R : Nat → Int → Int → Int → MM → Option MM) (x0 x1 x2 x3 x4 x5 : Int) (M : MM) : Option ((Int × MM) ⊕ (MM)) :=
  if w32 x5 < w32 x4 then
    ck 4 x2 M <| (f_X4_get x2 (26 + (3 * x5)) 1 M).bind fun v1 =>
    ck 4 x2 M <| (f_X4_get x2 ((26 + (3 * x5)) + 1) 1 M).bind fun v2 =>
    (gfi 31 16 x0 M).bind fun v3 =>
    ck 31 x0 M <| (f_X31_place x0 v1 v2 v3 x3 M).bind fun v4 =>
    if w32 v4 = w32 (-1) then
      j_X31_checked_142 R x0 x1 x2 x3 x4 x5 M
    else
      (gfr 31 12 x0 M).bind fun v5 =>
      (laz v5 v4 M).bind fun v6 =>
      if w32 v6 = 0 then
        (gfr 31 12 x0 M).bind fun v7 =>
        (saz v7 v4 1 M).bind fun M1 =>
        (gfr 31 11 x0 M1).bind fun v8 =>
        (lai v8 v4 M1).bind fun v9 =>
        ck 4 x2 M1 <| (f_X4_get x2 ((26 + (3 * x5)) + 2) 1 M1).bind fun v10 =>
        (sai v8 v4 (v9 + v10) M1).bind fun M2 =>
        j_X31_checked_142 R x0 x1 x2 x3 x4 x5 M2
      else
        j_X31_checked_142 R x0 x1 x2 x3 x4 x5 M
  else
    xit (j_X31_checked_148 R x0 x1 x3 M)
def l_X31_checked_53 (R : Nat → Int → Int → Int → MM → Option MM) (x0 x1 x2 x3 x4 x5 : Int) (M : MM) : Option (MM) := lpN (fun s : Int × MM => b_X31_checked_53 R x0 x1 x2 x3 x4 s.1 s.2) FU (x5, M)
def j_X31_checked_41 (R : Nat → Int → Int → Int → MM → Option MM) (x0 x1 x2 x3 : Int) (M : MM) : Option (MM) :=
  ck 4 x2 M <| (f_X4_get x2 25 1 M).bind fun v1 =>
  l_X31_checked_53 R x0 x1 x2 x3 v1 0 M
def b_X31_checked_21 (R : Nat → Int → Int → Int → MM → Option MM) (x0 x1 x2 x3 x4 : Int) (M : MM) : Option ((Int × MM) ⊕ (MM)) :=
  if w32 x4 < w32 x3 then
    (gfr 31 12 x0 M).bind fun v1 =>
    (saz v1 x4 0 M).bind fun M1 =>
    cnt (x4 + 1, M1)
  else
    xit (j_X31_checked_41 R x0 x1 x2 x3 M)
def l_X31_checked_21 (R : Nat → Int → Int → Int → MM → Option MM) (x0 x1 x2 x3 x4 : Int) (M : MM) : Option (MM) := lpN (fun s : Int × MM => b_X31_checked_21 R x0 x1 x2 x3 s.1 s.2) FU (x4, M)
def f_X31_checked (R : Nat → Int → Int → Int → MM → Option MM) (x0 x1 x2 : Int) (M : MM) : Option (MM) :=
  (gfi 31 16 x0 M).bind fun v1 =>
  (gfi 31 13 x0 M).bind fun v2 =>
  (gfi 31 16 x0 M).bind fun v3 =>
  l_X31_checked_21 R x0 x1 x2 (jmin (v1 + 30) v2) v3 M
theorem s_X31_checked_216 {g : GG} {d : Nat} (hD : 10 ≤ d) {R : Nat → Int → Int → Int → MM → Option MM} (hR : RH g d R) {M : MM} {o : AV × MM} {P : (MM) → Prop} (r0 : ∀ r : MM, P r → o = ((9, 0), r)) {z : MM} (h : j_X31_checked_216 R M = some z) (hz : P z) : Sem g d YX31_checked 216 [(9, 0), (9, 0), (9, 0), (9, 0), (9, 0), (9, 0), (9, 0), (9, 0)] [] M o := by
  delta j_X31_checked_216 at h
  obtain rfl := r0 _ (some_P (P := fun r => P r) h hz)
  exact S_return dX31_checked_216 rfl
theorem s_X31_checked_203 {g : GG} {d : Nat} (hD : 10 ≤ d) {R : Nat → Int → Int → Int → MM → Option MM} (hR : RH g d R) {x0 x1 : Int} {M : MM} {o : AV × MM} {P : (MM) → Prop} (r0 : ∀ r : MM, P r → o = ((9, 0), r)) {z : MM} (h : j_X31_checked_203 R x0 x1 M = some z) (hz : P z) : Sem g d YX31_checked 203 [(1, x0), (1, x1), (9, 0), (9, 0), (9, 0), (9, 0), (9, 0), (9, 0)] [] M o := by
  delta j_X31_checked_203 at h
  refine S_aload_n (i := 0) dX31_checked_203 rfl rfl ?_
  refine S_aload_n (i := 1) dX31_checked_204 rfl rfl ?_
  refine P_invVm' [(1, x1)] [] CVX31_finish MLX31_98 dX31_checked_205 rfl rfl rfl rfl (by omega) h (fun r h => F_X31_finish (by omega) h) (fun M1 h => ?_)
  refine S_goto (tgt := 216) dX31_checked_208 rfl ?_
  refine S_weak (ls' := [(9, 0), (9, 0), (9, 0), (9, 0), (9, 0), (9, 0), (9, 0), (9, 0)]) ⟨Or.inl rfl, ⟨Or.inl rfl, ⟨Or.inl rfl, ⟨Or.inl rfl, ⟨Or.inl rfl, ⟨Or.inl rfl, ⟨Or.inl rfl, ⟨Or.inl rfl, trivial⟩⟩⟩⟩⟩⟩⟩⟩ ?_
  exact s_X31_checked_216 hD hR r0 h hz
theorem s_X31_checked_183 {g : GG} {d : Nat} (hD : 10 ≤ d) {R : Nat → Int → Int → Int → MM → Option MM} (hR : RH g d R) {x0 x1 : Int} {M : MM} {o : AV × MM} {P : (MM) → Prop} (r0 : ∀ r : MM, P r → o = ((9, 0), r)) {z : MM} (h : j_X31_checked_183 R x0 x1 M = some z) (hz : P z) : Sem g d YX31_checked 183 [(1, x0), (1, x1), (9, 0), (9, 0), (9, 0), (9, 0), (9, 0), (9, 0)] [] M o := by
  delta j_X31_checked_183 at h
  refine S_aload_n (i := 0) dX31_checked_183 rfl rfl ?_
  refine P_gfi FLX31_79 rfl dX31_checked_184 h (fun v1 h => ?_)
  refine P_if_eq (tgt := 203) dX31_checked_187 rfl h (fun h => ?_) (fun h => ?_)
  · exact s_X31_checked_203 hD hR r0 h hz
  · refine S_aload_n (i := 0) dX31_checked_190 rfl rfl ?_
    refine P_gfi FLX31_85 rfl dX31_checked_191 h (fun v2 h => ?_)
    refine S_aload_n (i := 0) dX31_checked_194 rfl rfl ?_
    refine P_gfi FLX31_68 rfl dX31_checked_195 h (fun v3 h => ?_)
    refine S_iconst dX31_checked_198 rfl ?_
    refine S_isub dX31_checked_199 ?_
    refine P_icmp_ne (tgt := 211) dX31_checked_200 rfl h (fun h => ?_) (fun h => ?_)
    · refine S_aload_n (i := 0) dX31_checked_211 rfl rfl ?_
      refine S_aload_n (i := 1) dX31_checked_212 rfl rfl ?_
      refine P_invVm' [(1, x1)] [] CVX31_check MLX31_238 dX31_checked_213 rfl rfl rfl rfl (by omega) h (fun r h => hR.2.1 _ _ _ _ h) (fun M1 h => ?_)
      refine S_weak (ls' := [(9, 0), (9, 0), (9, 0), (9, 0), (9, 0), (9, 0), (9, 0), (9, 0)]) ⟨Or.inl rfl, ⟨Or.inl rfl, ⟨Or.inl rfl, ⟨Or.inl rfl, ⟨Or.inl rfl, ⟨Or.inl rfl, ⟨Or.inl rfl, ⟨Or.inl rfl, trivial⟩⟩⟩⟩⟩⟩⟩⟩ ?_
      exact s_X31_checked_216 hD hR r0 h hz
    · exact s_X31_checked_203 hD hR r0 h hz
theorem s_X31_checked_148 {g : GG} {d : Nat} (hD : 10 ≤ d) {R : Nat → Int → Int → Int → MM → Option MM} (hR : RH g d R) {x0 x1 x3 : Int} {M : MM} {o : AV × MM} {P : (MM) → Prop} (r0 : ∀ r : MM, P r → o = ((9, 0), r)) {z : MM} (h : j_X31_checked_148 R x0 x1 x3 M = some z) (hz : P z) : Sem g d YX31_checked 148 [(1, x0), (1, x1), (9, 0), (0, x3), (9, 0), (9, 0), (9, 0), (9, 0)] [] M o := by
  delta j_X31_checked_148 at h
  refine S_aload_n (i := 0) dX31_checked_148 rfl rfl ?_
  refine S_iload_n (i := 3) dX31_checked_149 rfl rfl ?_
  refine P_pfi FLX31_212 FPX31_212 rfl dX31_checked_150 h (fun M1 h => ?_)
  refine S_aload_n (i := 0) dX31_checked_153 rfl rfl ?_
  refine P_gfi FLX31_212 rfl dX31_checked_154 h (fun v1 h => ?_)
  refine S_aload_n (i := 0) dX31_checked_157 rfl rfl ?_
  refine P_gfi FLX31_79 rfl dX31_checked_158 h (fun v2 h => ?_)
  refine P_icmp_ne (tgt := 183) dX31_checked_161 rfl h (fun h => ?_) (fun h => ?_)
  · refine S_weak (ls' := [(1, x0), (1, x1), (9, 0), (9, 0), (9, 0), (9, 0), (9, 0), (9, 0)]) ⟨Or.inr rfl, ⟨Or.inr rfl, ⟨Or.inl rfl, ⟨Or.inl rfl, ⟨Or.inl rfl, ⟨Or.inl rfl, ⟨Or.inl rfl, ⟨Or.inl rfl, trivial⟩⟩⟩⟩⟩⟩⟩⟩ ?_
    exact s_X31_checked_183 hD hR r0 h hz
  · refine S_aload_n (i := 0) dX31_checked_164 rfl rfl ?_
    refine P_invVm' [] [] CVX31_sift MLX31_241 dX31_checked_165 rfl rfl rfl rfl (by omega) h (fun r h => F_X31_sift (by omega) h) (fun M2 h => ?_)
    refine S_aload_n (i := 0) dX31_checked_168 rfl rfl ?_
    refine S_dup dX31_checked_169 (Nat.le_of_ble_eq_true rfl) ?_
    refine P_gfi FLX31_85 rfl dX31_checked_170 h (fun v3 h => ?_)
    refine S_iconst dX31_checked_173 rfl ?_
    refine S_iadd dX31_checked_174 ?_
    refine P_pfi FLX31_85 FPX31_85 rfl dX31_checked_175 h (fun M3 h => ?_)
    refine S_aload_n (i := 0) dX31_checked_178 rfl rfl ?_
    refine S_iconst dX31_checked_179 rfl ?_
    refine P_pfi FLX31_212 FPX31_212 rfl dX31_checked_180 h (fun M4 h => ?_)
    refine S_weak (ls' := [(1, x0), (1, x1), (9, 0), (9, 0), (9, 0), (9, 0), (9, 0), (9, 0)]) ⟨Or.inr rfl, ⟨Or.inr rfl, ⟨Or.inl rfl, ⟨Or.inl rfl, ⟨Or.inl rfl, ⟨Or.inl rfl, ⟨Or.inl rfl, ⟨Or.inl rfl, trivial⟩⟩⟩⟩⟩⟩⟩⟩ ?_
    exact s_X31_checked_183 hD hR r0 h hz
theorem s_X31_checked_142 {g : GG} {d : Nat} (hD : 10 ≤ d) {R : Nat → Int → Int → Int → MM → Option MM} (hR : RH g d R) {x0 x1 x2 x3 x4 x5 : Int} {M : MM} {o : AV × MM} {P : ((Int × MM) ⊕ (MM)) → Prop} (c0 : ∀ s : Int × MM, P (.inl s) → Sem g d YX31_checked 53 [(1, x0), (1, x1), (1, x2), (0, x3), (0, x4), (0, s.1), (9, 0), (9, 0)] [] s.2 o) (r0 : ∀ r : MM, P (.inr r) → o = ((9, 0), r)) {z : (Int × MM) ⊕ (MM)} (h : j_X31_checked_142 R x0 x1 x2 x3 x4 x5 M = some z) (hz : P z) : Sem g d YX31_checked 142 [(1, x0), (1, x1), (1, x2), (0, x3), (0, x4), (0, x5), (9, 0), (9, 0)] [] M o := by
  delta j_X31_checked_142 at h
  refine S_iinc dX31_checked_142 rfl rfl rfl ?_
  change Sem g d YX31_checked 145 [(1, x0), (1, x1), (1, x2), (0, x3), (0, x4), (0, x5 + 1), (9, 0), (9, 0)] [] M o
  refine S_goto (tgt := 53) dX31_checked_145 rfl ?_
  exact c0 (x5 + 1, M) (some_P (P := fun r => P r) h hz)
theorem s_X31_checked_53 {g : GG} {d : Nat} (hD : 10 ≤ d) {R : Nat → Int → Int → Int → MM → Option MM} (hR : RH g d R) {x0 x1 x2 x3 x4 x5 : Int} {M : MM} {o : AV × MM} {P : ((Int × MM) ⊕ (MM)) → Prop} (c0 : ∀ s : Int × MM, P (.inl s) → Sem g d YX31_checked 53 [(1, x0), (1, x1), (1, x2), (0, x3), (0, x4), (0, s.1), (9, 0), (9, 0)] [] s.2 o) (r0 : ∀ r : MM, P (.inr r) → o = ((9, 0), r)) {z : (Int × MM) ⊕ (MM)} (h : b_X31_checked_53 R x0 x1 x2 x3 x4 x5 M = some z) (hz : P z) : Sem g d YX31_checked 53 [(1, x0), (1, x1), (1, x2), (0, x3), (0, x4), (0, x5), (9, 0), (9, 0)] [] M o := by
  delta b_X31_checked_53 at h
  refine S_iload dX31_checked_53 rfl ?_
  refine S_iload dX31_checked_55 rfl ?_
  refine P_icmp_ge (tgt := 148) dX31_checked_57 rfl h (fun h => ?_) (fun h => ?_)
  · refine S_weak (ls' := [(1, x0), (1, x1), (9, 0), (0, x3), (9, 0), (9, 0), (9, 0), (9, 0)]) ⟨Or.inr rfl, ⟨Or.inr rfl, ⟨Or.inl rfl, ⟨Or.inr rfl, ⟨Or.inl rfl, ⟨Or.inl rfl, ⟨Or.inl rfl, ⟨Or.inl rfl, trivial⟩⟩⟩⟩⟩⟩⟩⟩ ?_
    obtain ⟨z0, h, hz⟩ := xit_some' (P := fun r => P r) h hz
    exact s_X31_checked_148 hD hR (P := fun r => P (.inr r)) r0 h hz
  · refine S_bipush (z := 26) dX31_checked_60 rfl ?_
    refine S_iconst dX31_checked_62 rfl ?_
    refine S_iload dX31_checked_63 rfl ?_
    refine S_imul dX31_checked_65 ?_
    refine S_iadd dX31_checked_66 ?_
    refine S_istore dX31_checked_67 (Nat.le_of_ble_eq_true rfl) rfl rfl ?_
    change Sem g d YX31_checked 69 [(1, x0), (1, x1), (1, x2), (0, x3), (0, x4), (0, x5), (0, 26 + (3 * x5)), (9, 0)] [] M o
    refine S_aload_n (i := 0) dX31_checked_69 rfl rfl ?_
    refine S_aload_n (i := 2) dX31_checked_70 rfl rfl ?_
    refine S_iload dX31_checked_71 rfl ?_
    refine S_iconst dX31_checked_73 rfl ?_
    refine P_invVp 0 [(0, 26 + (3 * x5)), (0, 1)] [(1, x0)] CVX4_get MLX31_231 dX31_checked_74 rfl rfl rfl rfl rfl (by omega) h (fun r h => F_X4_get (by omega) h) (fun v1 h => ?_)
    refine S_aload_n (i := 2) dX31_checked_77 rfl rfl ?_
    refine S_iload dX31_checked_78 rfl ?_
    refine S_iconst dX31_checked_80 rfl ?_
    refine S_iadd dX31_checked_81 ?_
    refine S_iconst dX31_checked_82 rfl ?_
    refine P_invVp 0 [(0, (26 + (3 * x5)) + 1), (0, 1)] [(0, v1), (1, x0)] CVX4_get MLX31_231 dX31_checked_83 rfl rfl rfl rfl rfl (by omega) h (fun r h => F_X4_get (by omega) h) (fun v2 h => ?_)
    refine S_aload_n (i := 0) dX31_checked_86 rfl rfl ?_
    refine P_gfi FLX31_212 rfl dX31_checked_87 h (fun v3 h => ?_)
    refine S_iload_n (i := 3) dX31_checked_90 rfl rfl ?_
    refine P_invVp 0 [(0, v1), (0, v2), (0, v3), (0, x3)] [] CVX31_place MLX31_234 dX31_checked_91 rfl rfl rfl rfl rfl (by omega) h (fun r h => F_X31_place (by omega) h) (fun v4 h => ?_)
    refine S_istore dX31_checked_94 (Nat.le_of_ble_eq_true rfl) rfl rfl ?_
    change Sem g d YX31_checked 96 [(1, x0), (1, x1), (1, x2), (0, x3), (0, x4), (0, x5), (0, 26 + (3 * x5)), (0, v4)] [] M o
    refine S_iload dX31_checked_96 rfl ?_
    refine S_iconst dX31_checked_98 rfl ?_
    refine P_icmp_eq (tgt := 142) dX31_checked_99 rfl h (fun h => ?_) (fun h => ?_)
    · refine S_weak (ls' := [(1, x0), (1, x1), (1, x2), (0, x3), (0, x4), (0, x5), (9, 0), (9, 0)]) ⟨Or.inr rfl, ⟨Or.inr rfl, ⟨Or.inr rfl, ⟨Or.inr rfl, ⟨Or.inr rfl, ⟨Or.inr rfl, ⟨Or.inl rfl, ⟨Or.inl rfl, trivial⟩⟩⟩⟩⟩⟩⟩⟩ ?_
      exact s_X31_checked_142 hD hR c0 r0 h hz
    · refine S_aload_n (i := 0) dX31_checked_102 rfl rfl ?_
      refine P_gfr FLX31_39 rfl dX31_checked_103 h (fun v5 h => ?_)
      refine S_iload dX31_checked_106 rfl ?_
      refine P_laz dX31_checked_108 h (fun v6 h => ?_)
      refine P_if_eq (tgt := 115) dX31_checked_109 rfl h (fun h => ?_) (fun h => ?_)
      · refine S_aload_n (i := 0) dX31_checked_115 rfl rfl ?_
        refine P_gfr FLX31_39 rfl dX31_checked_116 h (fun v7 h => ?_)
        refine S_iload dX31_checked_119 rfl ?_
        refine S_iconst dX31_checked_121 rfl ?_
        refine P_saz dX31_checked_122 h (fun M1 h => ?_)
        refine S_aload_n (i := 0) dX31_checked_123 rfl rfl ?_
        refine P_gfr FLX31_36 rfl dX31_checked_124 h (fun v8 h => ?_)
        refine S_iload dX31_checked_127 rfl ?_
        refine S_dup2 dX31_checked_129 (Nat.le_of_ble_eq_true rfl) (Nat.le_of_ble_eq_true rfl) ?_
        refine P_lai dX31_checked_130 h (fun v9 h => ?_)
        refine S_aload_n (i := 2) dX31_checked_131 rfl rfl ?_
        refine S_iload dX31_checked_132 rfl ?_
        refine S_iconst dX31_checked_134 rfl ?_
        refine S_iadd dX31_checked_135 ?_
        refine S_iconst dX31_checked_136 rfl ?_
        refine P_invVp 0 [(0, (26 + (3 * x5)) + 2), (0, 1)] [(0, v9), (0, v4), (1, v8)] CVX4_get MLX31_231 dX31_checked_137 rfl rfl rfl rfl rfl (by omega) h (fun r h => F_X4_get (by omega) h) (fun v10 h => ?_)
        refine S_iadd dX31_checked_140 ?_
        refine P_sai dX31_checked_141 h (fun M2 h => ?_)
        refine S_weak (ls' := [(1, x0), (1, x1), (1, x2), (0, x3), (0, x4), (0, x5), (9, 0), (9, 0)]) ⟨Or.inr rfl, ⟨Or.inr rfl, ⟨Or.inr rfl, ⟨Or.inr rfl, ⟨Or.inr rfl, ⟨Or.inr rfl, ⟨Or.inl rfl, ⟨Or.inl rfl, trivial⟩⟩⟩⟩⟩⟩⟩⟩ ?_
        exact s_X31_checked_142 hD hR c0 r0 h hz
      · refine S_goto (tgt := 142) dX31_checked_112 rfl ?_
        refine S_weak (ls' := [(1, x0), (1, x1), (1, x2), (0, x3), (0, x4), (0, x5), (9, 0), (9, 0)]) ⟨Or.inr rfl, ⟨Or.inr rfl, ⟨Or.inr rfl, ⟨Or.inr rfl, ⟨Or.inr rfl, ⟨Or.inr rfl, ⟨Or.inl rfl, ⟨Or.inl rfl, trivial⟩⟩⟩⟩⟩⟩⟩⟩ ?_
        exact s_X31_checked_142 hD hR c0 r0 h hz
theorem sl_X31_checked_53 {g : GG} {d : Nat} (hD : 10 ≤ d) {R : Nat → Int → Int → Int → MM → Option MM} (hR : RH g d R) {x0 x1 x2 x3 x4 x5 : Int} {M : MM} {o : AV × MM} {P : (MM) → Prop} (r0 : ∀ r : MM, P r → o = ((9, 0), r)) {z : MM} (h : l_X31_checked_53 R x0 x1 x2 x3 x4 x5 M = some z) (hz : P z) : Sem g d YX31_checked 53 [(1, x0), (1, x1), (1, x2), (0, x3), (0, x4), (0, x5), (9, 0), (9, 0)] [] M o := by
  refine lp_sound (S := fun s : Int × MM => Sem g d YX31_checked 53 [(1, x0), (1, x1), (1, x2), (0, x3), (0, x4), (0, s.1), (9, 0), (9, 0)] [] s.2 o) (P := P) ?_ FU (x5, M) z h hz
  intro s x hx hP
  exact s_X31_checked_53 hD hR (P := Sum.elim (fun s : Int × MM => Sem g d YX31_checked 53 [(1, x0), (1, x1), (1, x2), (0, x3), (0, x4), (0, s.1), (9, 0), (9, 0)] [] s.2 o) P) (fun s h => h) (fun s h => r0 s h) hx hP
theorem s_X31_checked_41 {g : GG} {d : Nat} (hD : 10 ≤ d) {R : Nat → Int → Int → Int → MM → Option MM} (hR : RH g d R) {x0 x1 x2 x3 : Int} {M : MM} {o : AV × MM} {P : (MM) → Prop} (r0 : ∀ r : MM, P r → o = ((9, 0), r)) {z : MM} (h : j_X31_checked_41 R x0 x1 x2 x3 M = some z) (hz : P z) : Sem g d YX31_checked 41 [(1, x0), (1, x1), (1, x2), (0, x3), (9, 0), (9, 0), (9, 0), (9, 0)] [] M o := by
  delta j_X31_checked_41 at h
  refine S_aload_n (i := 2) dX31_checked_41 rfl rfl ?_
  refine S_bipush (z := 25) dX31_checked_42 rfl ?_
  refine S_iconst dX31_checked_44 rfl ?_
  refine P_invVp 0 [(0, 25), (0, 1)] [] CVX4_get MLX31_231 dX31_checked_45 rfl rfl rfl rfl rfl (by omega) h (fun r h => F_X4_get (by omega) h) (fun v1 h => ?_)
  refine S_istore dX31_checked_48 (Nat.le_of_ble_eq_true rfl) rfl rfl ?_
  change Sem g d YX31_checked 50 [(1, x0), (1, x1), (1, x2), (0, x3), (0, v1), (9, 0), (9, 0), (9, 0)] [] M o
  refine S_iconst dX31_checked_50 rfl ?_
  refine S_istore dX31_checked_51 (Nat.le_of_ble_eq_true rfl) rfl rfl ?_
  change Sem g d YX31_checked 53 [(1, x0), (1, x1), (1, x2), (0, x3), (0, v1), (0, 0), (9, 0), (9, 0)] [] M o
  exact sl_X31_checked_53 hD hR r0 h hz
theorem s_X31_checked_21 {g : GG} {d : Nat} (hD : 10 ≤ d) {R : Nat → Int → Int → Int → MM → Option MM} (hR : RH g d R) {x0 x1 x2 x3 x4 : Int} {M : MM} {o : AV × MM} {P : ((Int × MM) ⊕ (MM)) → Prop} (c0 : ∀ s : Int × MM, P (.inl s) → Sem g d YX31_checked 21 [(1, x0), (1, x1), (1, x2), (0, x3), (0, s.1), (9, 0), (9, 0), (9, 0)] [] s.2 o) (r0 : ∀ r : MM, P (.inr r) → o = ((9, 0), r)) {z : (Int × MM) ⊕ (MM)} (h : b_X31_checked_21 R x0 x1 x2 x3 x4 M = some z) (hz : P z) : Sem g d YX31_checked 21 [(1, x0), (1, x1), (1, x2), (0, x3), (0, x4), (9, 0), (9, 0), (9, 0)] [] M o := by
  delta b_X31_checked_21 at h
  refine S_iload dX31_checked_21 rfl ?_
  refine S_iload_n (i := 3) dX31_checked_23 rfl rfl ?_
  refine P_icmp_ge (tgt := 41) dX31_checked_24 rfl h (fun h => ?_) (fun h => ?_)
  · refine S_weak (ls' := [(1, x0), (1, x1), (1, x2), (0, x3), (9, 0), (9, 0), (9, 0), (9, 0)]) ⟨Or.inr rfl, ⟨Or.inr rfl, ⟨Or.inr rfl, ⟨Or.inr rfl, ⟨Or.inl rfl, ⟨Or.inl rfl, ⟨Or.inl rfl, ⟨Or.inl rfl, trivial⟩⟩⟩⟩⟩⟩⟩⟩ ?_
    obtain ⟨z0, h, hz⟩ := xit_some' (P := fun r => P r) h hz
    exact s_X31_checked_41 hD hR (P := fun r => P (.inr r)) r0 h hz
  · refine S_aload_n (i := 0) dX31_checked_27 rfl rfl ?_
    refine P_gfr FLX31_39 rfl dX31_checked_28 h (fun v1 h => ?_)
    refine S_iload dX31_checked_31 rfl ?_
    refine S_iconst dX31_checked_33 rfl ?_
    refine P_saz dX31_checked_34 h (fun M1 h => ?_)
    refine S_iinc dX31_checked_35 rfl rfl rfl ?_
    change Sem g d YX31_checked 38 [(1, x0), (1, x1), (1, x2), (0, x3), (0, x4 + 1), (9, 0), (9, 0), (9, 0)] [] M1 o
    refine S_goto (tgt := 21) dX31_checked_38 rfl ?_
    exact c0 (x4 + 1, M1) (some_P (P := fun r => P r) h hz)
theorem sl_X31_checked_21 {g : GG} {d : Nat} (hD : 10 ≤ d) {R : Nat → Int → Int → Int → MM → Option MM} (hR : RH g d R) {x0 x1 x2 x3 x4 : Int} {M : MM} {o : AV × MM} {P : (MM) → Prop} (r0 : ∀ r : MM, P r → o = ((9, 0), r)) {z : MM} (h : l_X31_checked_21 R x0 x1 x2 x3 x4 M = some z) (hz : P z) : Sem g d YX31_checked 21 [(1, x0), (1, x1), (1, x2), (0, x3), (0, x4), (9, 0), (9, 0), (9, 0)] [] M o := by
  refine lp_sound (S := fun s : Int × MM => Sem g d YX31_checked 21 [(1, x0), (1, x1), (1, x2), (0, x3), (0, s.1), (9, 0), (9, 0), (9, 0)] [] s.2 o) (P := P) ?_ FU (x4, M) z h hz
  intro s x hx hP
  exact s_X31_checked_21 hD hR (P := Sum.elim (fun s : Int × MM => Sem g d YX31_checked 21 [(1, x0), (1, x1), (1, x2), (0, x3), (0, s.1), (9, 0), (9, 0), (9, 0)] [] s.2 o) P) (fun s h => h) (fun s h => r0 s h) hx hP
theorem s_X31_checked_0 {g : GG} {d : Nat} (hD : 10 ≤ d) {R : Nat → Int → Int → Int → MM → Option MM} (hR : RH g d R) {x0 x1 x2 : Int} {M : MM} {o : AV × MM} {P : (MM) → Prop} (r0 : ∀ r : MM, P r → o = ((9, 0), r)) {z : MM} (h : f_X31_checked R x0 x1 x2 M = some z) (hz : P z) : Sem g d YX31_checked 0 [(1, x0), (1, x1), (1, x2), (9, 0), (9, 0), (9, 0), (9, 0), (9, 0)] [] M o := by
  delta f_X31_checked at h
  refine S_aload_n (i := 0) dX31_checked_0 rfl rfl ?_
  refine P_gfi FLX31_212 rfl dX31_checked_1 h (fun v1 h => ?_)
  refine S_bipush (z := 30) dX31_checked_4 rfl ?_
  refine S_iadd dX31_checked_6 ?_
  refine S_aload_n (i := 0) dX31_checked_7 rfl rfl ?_
  refine P_gfi FLX31_79 rfl dX31_checked_8 h (fun v2 h => ?_)
  refine S_min q1595 dX31_checked_11 rfl (by omega) ?_
  refine S_istore_n (i := 3) dX31_checked_14 rfl (Nat.le_of_ble_eq_true rfl) rfl rfl ?_
  change Sem g d YX31_checked 15 [(1, x0), (1, x1), (1, x2), (0, jmin (v1 + 30) v2), (9, 0), (9, 0), (9, 0), (9, 0)] [] M o
  refine S_aload_n (i := 0) dX31_checked_15 rfl rfl ?_
  refine P_gfi FLX31_212 rfl dX31_checked_16 h (fun v3 h => ?_)
  refine S_istore dX31_checked_19 (Nat.le_of_ble_eq_true rfl) rfl rfl ?_
  change Sem g d YX31_checked 21 [(1, x0), (1, x1), (1, x2), (0, jmin (v1 + 30) v2), (0, v3), (9, 0), (9, 0), (9, 0)] [] M o
  exact sl_X31_checked_21 hD hR r0 h hz
theorem Fr_X31_checked {g : GG} {d : Nat} (hD : 10 ≤ d) {R : Nat → Int → Int → Int → MM → Option MM} (hR : RH g d R) {x0 x1 x2 : Int} {M : MM} {r : MM} (h : f_X31_checked R x0 x1 x2 M = some r) : Sem g d YX31_checked 0 (ini YX31_checked [(1, x0), (1, x1), (1, x2)]) [] M ((9, 0), r) := by
  change Sem g d YX31_checked 0 [(1, x0), (1, x1), (1, x2), (9, 0), (9, 0), (9, 0), (9, 0), (9, 0)] [] M ((9, 0), r)
  exact s_X31_checked_0 hD hR (P := fun x => x = r) (fun q e => by rw [e]) h rfl
/-! PeerSearch$Asking.consult(LPeerSearch$Work;I)V -/
theorem dX31_consult_0 : decode cX31_consult 0 = .ok (.aload_n 0, 1) := by decide +kernel
theorem dX31_consult_1 : decode cX31_consult 1 = .ok (.getfield 17, 3) := by decide +kernel
theorem dX31_consult_4 : decode cX31_consult 4 = .ok (.iload_n 2, 1) := by decide +kernel
theorem dX31_consult_5 : decode cX31_consult 5 = .ok (.aaload, 1) := by decide +kernel
theorem dX31_consult_6 : decode cX31_consult 6 = .ok (.aload_n 1, 1) := by decide +kernel
theorem dX31_consult_7 : decode cX31_consult 7 = .ok (.getfield 111, 3) := by decide +kernel
theorem dX31_consult_10 : decode cX31_consult 10 = .ok (.getfield 146, 3) := by decide +kernel
theorem dX31_consult_13 : decode cX31_consult 13 = .ok (.invokevirtual 147, 3) := by decide +kernel
theorem dX31_consult_16 : decode cX31_consult 16 = .ok (.ifCond .eq 34, 3) := by decide +kernel
theorem dX31_consult_19 : decode cX31_consult 19 = .ok (.aload_n 1, 1) := by decide +kernel
theorem dX31_consult_20 : decode cX31_consult 20 = .ok (.getfield 111, 3) := by decide +kernel
theorem dX31_consult_23 : decode cX31_consult 23 = .ok (.aload_n 1, 1) := by decide +kernel
theorem dX31_consult_24 : decode cX31_consult 24 = .ok (.getfield 166, 3) := by decide +kernel
theorem dX31_consult_27 : decode cX31_consult 27 = .ok (.getfield 170, 3) := by decide +kernel
theorem dX31_consult_30 : decode cX31_consult 30 = .ok (.aconst_null, 1) := by decide +kernel
theorem dX31_consult_31 : decode cX31_consult 31 = .ok (.invokevirtual 174, 3) := by decide +kernel
theorem dX31_consult_34 : decode cX31_consult 34 = .ok (.istore_n 3, 1) := by decide +kernel
theorem dX31_consult_35 : decode cX31_consult 35 = .ok (.aload_n 0, 1) := by decide +kernel
theorem dX31_consult_36 : decode cX31_consult 36 = .ok (.aload_n 1, 1) := by decide +kernel
theorem dX31_consult_37 : decode cX31_consult 37 = .ok (.aload_n 1, 1) := by decide +kernel
theorem dX31_consult_38 : decode cX31_consult 38 = .ok (.getfield 166, 3) := by decide +kernel
theorem dX31_consult_41 : decode cX31_consult 41 = .ok (.getfield 178, 3) := by decide +kernel
theorem dX31_consult_44 : decode cX31_consult 44 = .ok (.invokevirtual 181, 3) := by decide +kernel
theorem dX31_consult_47 : decode cX31_consult 47 = .ok (.goto 27, 3) := by decide +kernel
theorem dX31_consult_50 : decode cX31_consult 50 = .ok (.aload_n 1, 1) := by decide +kernel
theorem dX31_consult_51 : decode cX31_consult 51 = .ok (.aload_n 0, 1) := by decide +kernel
theorem dX31_consult_52 : decode cX31_consult 52 = .ok (.getfield 17, 3) := by decide +kernel
theorem dX31_consult_55 : decode cX31_consult 55 = .ok (.iload_n 2, 1) := by decide +kernel
theorem dX31_consult_56 : decode cX31_consult 56 = .ok (.aaload, 1) := by decide +kernel
theorem dX31_consult_57 : decode cX31_consult 57 = .ok (.aload_n 0, 1) := by decide +kernel
theorem dX31_consult_58 : decode cX31_consult 58 = .ok (.getfield 24, 3) := by decide +kernel
theorem dX31_consult_61 : decode cX31_consult 61 = .ok (.iload_n 2, 1) := by decide +kernel
theorem dX31_consult_62 : decode cX31_consult 62 = .ok (.iaload, 1) := by decide +kernel
theorem dX31_consult_63 : decode cX31_consult 63 = .ok (.invokevirtual 185, 3) := by decide +kernel
theorem dX31_consult_66 : decode cX31_consult 66 = .ok (.ifCond .ne 8, 3) := by decide +kernel
theorem dX31_consult_69 : decode cX31_consult 69 = .ok (.aload_n 0, 1) := by decide +kernel
theorem dX31_consult_70 : decode cX31_consult 70 = .ok (.aload_n 1, 1) := by decide +kernel
theorem dX31_consult_71 : decode cX31_consult 71 = .ok (.invokevirtual 189, 3) := by decide +kernel
theorem dX31_consult_74 : decode cX31_consult 74 = .ok (.return_, 1) := by decide +kernel
def j_X31_consult_74 (R : Nat → Int → Int → Int → MM → Option MM) (M : MM) : Option (MM) :=
  some M
def f_X31_consult (R : Nat → Int → Int → Int → MM → Option MM) (x0 x1 x2 : Int) (M : MM) : Option (MM) :=
  (gfr 31 1 x0 M).bind fun v1 =>
  (lar 13 v1 x2 M).bind fun v2 =>
  (gfr 11 2 x1 M).bind fun v3 =>
  (gfr 17 2 v3 M).bind fun v4 =>
  ck 3 v2 M <| (f_X3_is v2 v4 M).bind fun v5 =>
  if w32 v5 = 0 then
    (gfr 31 1 x0 M).bind fun v6 =>
    (lar 13 v6 x2 M).bind fun v7 =>
    (gfr 31 3 x0 M).bind fun v8 =>
    (lai v8 x2 M).bind fun v9 =>
    ck 11 x1 M <| (f_X11_ask x1 v7 v9 M).bind fun r1 =>
    if w32 r1.1 = 0 then
      ck 31 x0 r1.2 <| (f_X31_failed x0 x1 r1.2).bind fun M1 =>
      j_X31_consult_74 R M1
    else
      j_X31_consult_74 R r1.2
  else
    (gfr 11 2 x1 M).bind fun v10 =>
    (gfr 11 0 x1 M).bind fun v11 =>
    (gfr 6 8 v11 M).bind fun v12 =>
    ck 17 v10 M <| (f_X17_answers v10 v12 (-1) M).bind fun r2 =>
    (gfr 11 0 x1 r2.2).bind fun v13 =>
    (gfr 6 9 v13 r2.2).bind fun v14 =>
    ck 31 x0 r2.2 <| (R 0 x0 x1 v14 r2.2).bind fun M2 =>
    j_X31_consult_74 R M2
theorem s_X31_consult_74 {g : GG} {d : Nat} (hD : 10 ≤ d) {R : Nat → Int → Int → Int → MM → Option MM} (hR : RH g d R) {M : MM} {o : AV × MM} {P : (MM) → Prop} (r0 : ∀ r : MM, P r → o = ((9, 0), r)) {z : MM} (h : j_X31_consult_74 R M = some z) (hz : P z) : Sem g d YX31_consult 74 [(9, 0), (9, 0), (9, 0), (9, 0)] [] M o := by
  delta j_X31_consult_74 at h
  obtain rfl := r0 _ (some_P (P := fun r => P r) h hz)
  exact S_return dX31_consult_74 rfl
theorem s_X31_consult_0 {g : GG} {d : Nat} (hD : 10 ≤ d) {R : Nat → Int → Int → Int → MM → Option MM} (hR : RH g d R) {x0 x1 x2 : Int} {M : MM} {o : AV × MM} {P : (MM) → Prop} (r0 : ∀ r : MM, P r → o = ((9, 0), r)) {z : MM} (h : f_X31_consult R x0 x1 x2 M = some z) (hz : P z) : Sem g d YX31_consult 0 [(1, x0), (1, x1), (0, x2), (9, 0)] [] M o := by
  delta f_X31_consult at h
  refine S_aload_n (i := 0) dX31_consult_0 rfl rfl ?_
  refine P_gfr FLX31_17 rfl dX31_consult_1 h (fun v1 h => ?_)
  refine S_iload_n (i := 2) dX31_consult_4 rfl rfl ?_
  refine P_lar (t := 13) ⟨by decide, by decide⟩ dX31_consult_5 h (fun v2 h => ?_)
  refine S_aload_n (i := 1) dX31_consult_6 rfl rfl ?_
  refine P_gfr FLX31_111 rfl dX31_consult_7 h (fun v3 h => ?_)
  refine P_gfr FLX31_146 rfl dX31_consult_10 h (fun v4 h => ?_)
  refine P_invVp 0 [(1, v4)] [] CVX3_is MLX31_147 dX31_consult_13 rfl rfl rfl rfl rfl (by omega) h (fun r h => F_X3_is (by omega) h) (fun v5 h => ?_)
  refine P_if_eq (tgt := 50) dX31_consult_16 rfl h (fun h => ?_) (fun h => ?_)
  · refine S_aload_n (i := 1) dX31_consult_50 rfl rfl ?_
    refine S_aload_n (i := 0) dX31_consult_51 rfl rfl ?_
    refine P_gfr FLX31_17 rfl dX31_consult_52 h (fun v6 h => ?_)
    refine S_iload_n (i := 2) dX31_consult_55 rfl rfl ?_
    refine P_lar (t := 13) ⟨by decide, by decide⟩ dX31_consult_56 h (fun v7 h => ?_)
    refine S_aload_n (i := 0) dX31_consult_57 rfl rfl ?_
    refine P_gfr FLX31_24 rfl dX31_consult_58 h (fun v8 h => ?_)
    refine S_iload_n (i := 2) dX31_consult_61 rfl rfl ?_
    refine P_lai dX31_consult_62 h (fun v9 h => ?_)
    refine P_invVe 0 [(1, v7), (0, v9)] [] CVX11_ask MLX31_185 dX31_consult_63 rfl rfl rfl rfl rfl (by omega) h (fun r h => F_X11_ask (by omega) h) (fun r1 h => ?_)
    refine P_if_ne (tgt := 74) dX31_consult_66 rfl h (fun h => ?_) (fun h => ?_)
    · refine S_weak (ls' := [(9, 0), (9, 0), (9, 0), (9, 0)]) ⟨Or.inl rfl, ⟨Or.inl rfl, ⟨Or.inl rfl, ⟨Or.inl rfl, trivial⟩⟩⟩⟩ ?_
      exact s_X31_consult_74 hD hR r0 h hz
    · refine S_aload_n (i := 0) dX31_consult_69 rfl rfl ?_
      refine S_aload_n (i := 1) dX31_consult_70 rfl rfl ?_
      refine P_invVm' [(1, x1)] [] CVX31_failed MLX31_189 dX31_consult_71 rfl rfl rfl rfl (by omega) h (fun r h => F_X31_failed (by omega) h) (fun M1 h => ?_)
      refine S_weak (ls' := [(9, 0), (9, 0), (9, 0), (9, 0)]) ⟨Or.inl rfl, ⟨Or.inl rfl, ⟨Or.inl rfl, ⟨Or.inl rfl, trivial⟩⟩⟩⟩ ?_
      exact s_X31_consult_74 hD hR r0 h hz
  · refine S_aload_n (i := 1) dX31_consult_19 rfl rfl ?_
    refine P_gfr FLX31_111 rfl dX31_consult_20 h (fun v10 h => ?_)
    refine S_aload_n (i := 1) dX31_consult_23 rfl rfl ?_
    refine P_gfr FLX31_166 rfl dX31_consult_24 h (fun v11 h => ?_)
    refine P_gfr FLX31_170 rfl dX31_consult_27 h (fun v12 h => ?_)
    refine S_null dX31_consult_30 ?_
    refine P_invVe 0 [(1, v12), (1, (-1))] [] CVX17_answers MLX31_174 dX31_consult_31 rfl rfl rfl rfl rfl (by omega) h (fun r h => F_X17_answers (by omega) h) (fun r2 h => ?_)
    refine S_istore_n (i := 3) dX31_consult_34 rfl (Nat.le_of_ble_eq_true rfl) rfl rfl ?_
    change Sem g d YX31_consult 35 [(1, x0), (1, x1), (0, x2), (0, r2.1)] [] r2.2 o
    refine S_aload_n (i := 0) dX31_consult_35 rfl rfl ?_
    refine S_aload_n (i := 1) dX31_consult_36 rfl rfl ?_
    refine S_aload_n (i := 1) dX31_consult_37 rfl rfl ?_
    refine P_gfr FLX31_166 rfl dX31_consult_38 h (fun v13 h => ?_)
    refine P_gfr FLX31_178 rfl dX31_consult_41 h (fun v14 h => ?_)
    refine P_invVm' [(1, x1), (1, v14)] [] CVX31_answered MLX31_181 dX31_consult_44 rfl rfl rfl rfl (by omega) h (fun r h => hR.1 _ _ _ _ _ h) (fun M2 h => ?_)
    refine S_goto (tgt := 74) dX31_consult_47 rfl ?_
    refine S_weak (ls' := [(9, 0), (9, 0), (9, 0), (9, 0)]) ⟨Or.inl rfl, ⟨Or.inl rfl, ⟨Or.inl rfl, ⟨Or.inl rfl, trivial⟩⟩⟩⟩ ?_
    exact s_X31_consult_74 hD hR r0 h hz
theorem Fr_X31_consult {g : GG} {d : Nat} (hD : 10 ≤ d) {R : Nat → Int → Int → Int → MM → Option MM} (hR : RH g d R) {x0 x1 x2 : Int} {M : MM} {r : MM} (h : f_X31_consult R x0 x1 x2 M = some r) : Sem g d YX31_consult 0 (ini YX31_consult [(1, x0), (1, x1), (0, x2)]) [] M ((9, 0), r) := by
  change Sem g d YX31_consult 0 [(1, x0), (1, x1), (0, x2), (9, 0)] [] M ((9, 0), r)
  exact s_X31_consult_0 hD hR (P := fun x => x = r) (fun q e => by rw [e]) h rfl
/-! PeerSearch$Asking.list(LPeerSearch$Work;)V -/
theorem dX31_list_0 : decode cX31_list 0 = .ok (.aload_n 0, 1) := by decide +kernel
theorem dX31_list_1 : decode cX31_list 1 = .ok (.iconst 1, 1) := by decide +kernel
theorem dX31_list_2 : decode cX31_list 2 = .ok (.putfield 108, 3) := by decide +kernel
theorem dX31_list_5 : decode cX31_list 5 = .ok (.aload_n 0, 1) := by decide +kernel
theorem dX31_list_6 : decode cX31_list 6 = .ok (.getfield 68, 3) := by decide +kernel
theorem dX31_list_9 : decode cX31_list 9 = .ok (.iconst 1, 1) := by decide +kernel
theorem dX31_list_10 : decode cX31_list 10 = .ok (.if_icmp .ne 7, 3) := by decide +kernel
theorem dX31_list_13 : decode cX31_list 13 = .ok (.iconst 0, 1) := by decide +kernel
theorem dX31_list_14 : decode cX31_list 14 = .ok (.goto 9, 3) := by decide +kernel
theorem dX31_list_17 : decode cX31_list 17 = .ok (.aload_n 0, 1) := by decide +kernel
theorem dX31_list_18 : decode cX31_list 18 = .ok (.getfield 27, 3) := by decide +kernel
theorem dX31_list_21 : decode cX31_list 21 = .ok (.iconst 1, 1) := by decide +kernel
theorem dX31_list_22 : decode cX31_list 22 = .ok (.iaload, 1) := by decide +kernel
theorem dX31_list_23 : decode cX31_list 23 = .ok (.istore_n 2, 1) := by decide +kernel
theorem dX31_list_24 : decode cX31_list 24 = .ok (.aload_n 0, 1) := by decide +kernel
theorem dX31_list_25 : decode cX31_list 25 = .ok (.getfield 68, 3) := by decide +kernel
theorem dX31_list_28 : decode cX31_list 28 = .ok (.iconst 1, 1) := by decide +kernel
theorem dX31_list_29 : decode cX31_list 29 = .ok (.if_icmp .ne 23, 3) := by decide +kernel
theorem dX31_list_32 : decode cX31_list 32 = .ok (.aload_n 0, 1) := by decide +kernel
theorem dX31_list_33 : decode cX31_list 33 = .ok (.getfield 63, 3) := by decide +kernel
theorem dX31_list_36 : decode cX31_list 36 = .ok (.iconst 0, 1) := by decide +kernel
theorem dX31_list_37 : decode cX31_list 37 = .ok (.aload_n 1, 1) := by decide +kernel
theorem dX31_list_38 : decode cX31_list 38 = .ok (.getfield 166, 3) := by decide +kernel
theorem dX31_list_41 : decode cX31_list 41 = .ok (.getfield 192, 3) := by decide +kernel
theorem dX31_list_44 : decode cX31_list 44 = .ok (.bipush 9, 2) := by decide +kernel
theorem dX31_list_46 : decode cX31_list 46 = .ok (.invokevirtual 196, 3) := by decide +kernel
theorem dX31_list_49 : decode cX31_list 49 = .ok (.invokevirtual 202, 3) := by decide +kernel
theorem dX31_list_52 : decode cX31_list 52 = .ok (.aload_n 1, 1) := by decide +kernel
theorem dX31_list_53 : decode cX31_list 53 = .ok (.getfield 111, 3) := by decide +kernel
theorem dX31_list_56 : decode cX31_list 56 = .ok (.bipush 11, 2) := by decide +kernel
theorem dX31_list_58 : decode cX31_list 58 = .ok (.invokevirtual 115, 3) := by decide +kernel
theorem dX31_list_61 : decode cX31_list 61 = .ok (.astore_n 3, 1) := by decide +kernel
theorem dX31_list_62 : decode cX31_list 62 = .ok (.aload_n 3, 1) := by decide +kernel
theorem dX31_list_63 : decode cX31_list 63 = .ok (.aload_n 0, 1) := by decide +kernel
theorem dX31_list_64 : decode cX31_list 64 = .ok (.getfield 11, 3) := by decide +kernel
theorem dX31_list_67 : decode cX31_list 67 = .ok (.iload_n 2, 1) := by decide +kernel
theorem dX31_list_68 : decode cX31_list 68 = .ok (.aaload, 1) := by decide +kernel
theorem dX31_list_69 : decode cX31_list 69 = .ok (.invokevirtual 121, 3) := by decide +kernel
theorem dX31_list_72 : decode cX31_list 72 = .ok (.aload_n 3, 1) := by decide +kernel
theorem dX31_list_73 : decode cX31_list 73 = .ok (.aload_n 0, 1) := by decide +kernel
theorem dX31_list_74 : decode cX31_list 74 = .ok (.getfield 82, 3) := by decide +kernel
theorem dX31_list_77 : decode cX31_list 77 = .ok (.iconst 2, 1) := by decide +kernel
theorem dX31_list_78 : decode cX31_list 78 = .ok (.invokevirtual 205, 3) := by decide +kernel
theorem dX31_list_81 : decode cX31_list 81 = .ok (.aload_n 0, 1) := by decide +kernel
theorem dX31_list_82 : decode cX31_list 82 = .ok (.getfield 63, 3) := by decide +kernel
theorem dX31_list_85 : decode cX31_list 85 = .ok (.aload_n 3, 1) := by decide +kernel
theorem dX31_list_86 : decode cX31_list 86 = .ok (.invokevirtual 208, 3) := by decide +kernel
theorem dX31_list_89 : decode cX31_list 89 = .ok (.aload_n 0, 1) := by decide +kernel
theorem dX31_list_90 : decode cX31_list 90 = .ok (.aload_n 1, 1) := by decide +kernel
theorem dX31_list_91 : decode cX31_list 91 = .ok (.iload_n 2, 1) := by decide +kernel
theorem dX31_list_92 : decode cX31_list 92 = .ok (.invokevirtual 126, 3) := by decide +kernel
theorem dX31_list_95 : decode cX31_list 95 = .ok (.return_, 1) := by decide +kernel
def j_X31_list_52 (R : Nat → Int → Int → Int → MM → Option MM) (x0 x1 x2 : Int) (M : MM) : Option (MM) :=
  (gfr 11 2 x1 M).bind fun v1 =>
  ck 17 v1 M <| (f_X17_begin v1 11 M).bind fun r1 =>
  (gfr 31 0 x0 r1.2).bind fun v2 =>
  (lar 13 v2 x2 r1.2).bind fun v3 =>
  ck 4 r1.1 r1.2 <| (f_X4_putKey r1.1 v3 r1.2).bind fun M1 =>
  (gfi 31 14 x0 M1).bind fun v4 =>
  ck 4 r1.1 M1 <| (f_X4_put r1.1 v4 2 M1).bind fun M2 =>
  (gfr 31 8 x0 M2).bind fun v5 =>
  ck 10 v5 M2 <| (f_X10_write v5 r1.1 M2).bind fun M3 =>
  ck 31 x0 M3 <| (R 3 x0 x1 x2 M3).bind fun M4 =>
  some M4
def j_X31_list_23 (R : Nat → Int → Int → Int → MM → Option MM) (x0 x1 y0 : Int) (M : MM) : Option (MM) :=
  (gfi 31 5 x0 M).bind fun v1 =>
  if w32 v1 = w32 1 then
    (gfr 31 8 x0 M).bind fun v2 =>
    (gfr 11 0 x1 M).bind fun v3 =>
    (gfr 6 2 v3 M).bind fun v4 =>
    ck 7 v4 M <| (f_X7_setting v4 9 M).bind fun v5 =>
    ck 10 v2 M <| (f_X10_begin v2 0 v5 M).bind fun M1 =>
    j_X31_list_52 R x0 x1 y0 M1
  else
    j_X31_list_52 R x0 x1 y0 M
def f_X31_list (R : Nat → Int → Int → Int → MM → Option MM) (x0 x1 : Int) (M : MM) : Option (MM) :=
  (pfi 31 7 x0 1 M).bind fun M1 =>
  (gfi 31 5 x0 M1).bind fun v1 =>
  if w32 v1 = w32 1 then
    j_X31_list_23 R x0 x1 0 M1
  else
    (gfr 31 4 x0 M1).bind fun v2 =>
    (lai v2 1 M1).bind fun v3 =>
    j_X31_list_23 R x0 x1 v3 M1
theorem s_X31_list_52 {g : GG} {d : Nat} (hD : 10 ≤ d) {R : Nat → Int → Int → Int → MM → Option MM} (hR : RH g d R) {x0 x1 x2 : Int} {M : MM} {o : AV × MM} {P : (MM) → Prop} (r0 : ∀ r : MM, P r → o = ((9, 0), r)) {z : MM} (h : j_X31_list_52 R x0 x1 x2 M = some z) (hz : P z) : Sem g d YX31_list 52 [(1, x0), (1, x1), (0, x2), (9, 0)] [] M o := by
  delta j_X31_list_52 at h
  refine S_aload_n (i := 1) dX31_list_52 rfl rfl ?_
  refine P_gfr FLX31_111 rfl dX31_list_53 h (fun v1 h => ?_)
  refine S_bipush (z := 11) dX31_list_56 rfl ?_
  refine P_invVe 1 [(0, 11)] [] CVX17_begin MLX31_115 dX31_list_58 rfl rfl rfl rfl rfl (by omega) h (fun r h => F_X17_begin (by omega) h) (fun r1 h => ?_)
  refine S_astore_n (i := 3) dX31_list_61 rfl (Nat.le_of_ble_eq_true rfl) rfl rfl ?_
  change Sem g d YX31_list 62 [(1, x0), (1, x1), (0, x2), (1, r1.1)] [] r1.2 o
  refine S_aload_n (i := 3) dX31_list_62 rfl rfl ?_
  refine S_aload_n (i := 0) dX31_list_63 rfl rfl ?_
  refine P_gfr FLX31_11 rfl dX31_list_64 h (fun v2 h => ?_)
  refine S_iload_n (i := 2) dX31_list_67 rfl rfl ?_
  refine P_lar (t := 13) ⟨by decide, by decide⟩ dX31_list_68 h (fun v3 h => ?_)
  refine P_invVm' [(1, v3)] [] CVX4_putKey MLX31_121 dX31_list_69 rfl rfl rfl rfl (by omega) h (fun r h => F_X4_putKey (by omega) h) (fun M1 h => ?_)
  refine S_aload_n (i := 3) dX31_list_72 rfl rfl ?_
  refine S_aload_n (i := 0) dX31_list_73 rfl rfl ?_
  refine P_gfi FLX31_82 rfl dX31_list_74 h (fun v4 h => ?_)
  refine S_iconst dX31_list_77 rfl ?_
  refine P_invVm' [(0, v4), (0, 2)] [] CVX4_put MLX31_205 dX31_list_78 rfl rfl rfl rfl (by omega) h (fun r h => F_X4_put (by omega) h) (fun M2 h => ?_)
  refine S_aload_n (i := 0) dX31_list_81 rfl rfl ?_
  refine P_gfr FLX31_63 rfl dX31_list_82 h (fun v5 h => ?_)
  refine S_aload_n (i := 3) dX31_list_85 rfl rfl ?_
  refine P_invVm' [(1, r1.1)] [] CVX10_write MLX31_208 dX31_list_86 rfl rfl rfl rfl (by omega) h (fun r h => F_X10_write (by omega) h) (fun M3 h => ?_)
  refine S_aload_n (i := 0) dX31_list_89 rfl rfl ?_
  refine S_aload_n (i := 1) dX31_list_90 rfl rfl ?_
  refine S_iload_n (i := 2) dX31_list_91 rfl rfl ?_
  refine P_invVm' [(1, x1), (0, x2)] [] CVX31_consult MLX31_126 dX31_list_92 rfl rfl rfl rfl (by omega) h (fun r h => hR.2.2.2.1 _ _ _ _ _ h) (fun M4 h => ?_)
  obtain rfl := r0 _ (some_P (P := fun r => P r) h hz)
  exact S_return dX31_list_95 rfl
theorem s_X31_list_23 {g : GG} {d : Nat} (hD : 10 ≤ d) {R : Nat → Int → Int → Int → MM → Option MM} (hR : RH g d R) {x0 x1 y0 : Int} {M : MM} {o : AV × MM} {P : (MM) → Prop} (r0 : ∀ r : MM, P r → o = ((9, 0), r)) {z : MM} (h : j_X31_list_23 R x0 x1 y0 M = some z) (hz : P z) : Sem g d YX31_list 23 [(1, x0), (1, x1), (9, 0), (9, 0)] [(0, y0)] M o := by
  delta j_X31_list_23 at h
  refine S_istore_n (i := 2) dX31_list_23 rfl (Nat.le_of_ble_eq_true rfl) rfl rfl ?_
  change Sem g d YX31_list 24 [(1, x0), (1, x1), (0, y0), (9, 0)] [] M o
  refine S_aload_n (i := 0) dX31_list_24 rfl rfl ?_
  refine P_gfi FLX31_68 rfl dX31_list_25 h (fun v1 h => ?_)
  refine S_iconst dX31_list_28 rfl ?_
  refine P_icmp_ne (tgt := 52) dX31_list_29 rfl h (fun h => ?_) (fun h => ?_)
  · exact s_X31_list_52 hD hR r0 h hz
  · refine S_aload_n (i := 0) dX31_list_32 rfl rfl ?_
    refine P_gfr FLX31_63 rfl dX31_list_33 h (fun v2 h => ?_)
    refine S_iconst dX31_list_36 rfl ?_
    refine S_aload_n (i := 1) dX31_list_37 rfl rfl ?_
    refine P_gfr FLX31_166 rfl dX31_list_38 h (fun v3 h => ?_)
    refine P_gfr FLX31_192 rfl dX31_list_41 h (fun v4 h => ?_)
    refine S_bipush (z := 9) dX31_list_44 rfl ?_
    refine P_invVp 0 [(0, 9)] [(0, 0), (1, v2)] CVX7_setting MLX31_196 dX31_list_46 rfl rfl rfl rfl rfl (by omega) h (fun r h => F_X7_setting (by omega) h) (fun v5 h => ?_)
    refine P_invVm' [(0, 0), (0, v5)] [] CVX10_begin MLX31_202 dX31_list_49 rfl rfl rfl rfl (by omega) h (fun r h => F_X10_begin (by omega) h) (fun M1 h => ?_)
    exact s_X31_list_52 hD hR r0 h hz
theorem s_X31_list_0 {g : GG} {d : Nat} (hD : 10 ≤ d) {R : Nat → Int → Int → Int → MM → Option MM} (hR : RH g d R) {x0 x1 : Int} {M : MM} {o : AV × MM} {P : (MM) → Prop} (r0 : ∀ r : MM, P r → o = ((9, 0), r)) {z : MM} (h : f_X31_list R x0 x1 M = some z) (hz : P z) : Sem g d YX31_list 0 [(1, x0), (1, x1), (9, 0), (9, 0)] [] M o := by
  delta f_X31_list at h
  refine S_aload_n (i := 0) dX31_list_0 rfl rfl ?_
  refine S_iconst dX31_list_1 rfl ?_
  refine P_pfi FLX31_108 FPX31_108 rfl dX31_list_2 h (fun M1 h => ?_)
  refine S_aload_n (i := 0) dX31_list_5 rfl rfl ?_
  refine P_gfi FLX31_68 rfl dX31_list_6 h (fun v1 h => ?_)
  refine S_iconst dX31_list_9 rfl ?_
  refine P_icmp_ne (tgt := 17) dX31_list_10 rfl h (fun h => ?_) (fun h => ?_)
  · refine S_aload_n (i := 0) dX31_list_17 rfl rfl ?_
    refine P_gfr FLX31_27 rfl dX31_list_18 h (fun v2 h => ?_)
    refine S_iconst dX31_list_21 rfl ?_
    refine P_lai dX31_list_22 h (fun v3 h => ?_)
    exact s_X31_list_23 hD hR r0 h hz
  · refine S_iconst dX31_list_13 rfl ?_
    refine S_goto (tgt := 23) dX31_list_14 rfl ?_
    exact s_X31_list_23 hD hR r0 h hz
theorem Fr_X31_list {g : GG} {d : Nat} (hD : 10 ≤ d) {R : Nat → Int → Int → Int → MM → Option MM} (hR : RH g d R) {x0 x1 : Int} {M : MM} {r : MM} (h : f_X31_list R x0 x1 M = some r) : Sem g d YX31_list 0 (ini YX31_list [(1, x0), (1, x1)]) [] M ((9, 0), r) := by
  change Sem g d YX31_list 0 [(1, x0), (1, x1), (9, 0), (9, 0)] [] M ((9, 0), r)
  exact s_X31_list_0 hD hR (P := fun x => x = r) (fun q e => by rw [e]) h rfl
/-! PeerSearch$Asking.listed(LPeerSearch$Work;LPeerSearch$Packet;)V -/
theorem dX31_listed_0 : decode cX31_listed 0 = .ok (.aload_n 2, 1) := by decide +kernel
theorem dX31_listed_1 : decode cX31_listed 1 = .ok (.bipush 26, 2) := by decide +kernel
theorem dX31_listed_3 : decode cX31_listed 3 = .ok (.iconst 1, 1) := by decide +kernel
theorem dX31_listed_4 : decode cX31_listed 4 = .ok (.invokevirtual 231, 3) := by decide +kernel
theorem dX31_listed_7 : decode cX31_listed 7 = .ok (.istore_n 3, 1) := by decide +kernel
theorem dX31_listed_8 : decode cX31_listed 8 = .ok (.aload_n 0, 1) := by decide +kernel
theorem dX31_listed_9 : decode cX31_listed 9 = .ok (.dup, 1) := by decide +kernel
theorem dX31_listed_10 : decode cX31_listed 10 = .ok (.getfield 82, 3) := by decide +kernel
theorem dX31_listed_13 : decode cX31_listed 13 = .ok (.iload_n 3, 1) := by decide +kernel
theorem dX31_listed_14 : decode cX31_listed 14 = .ok (.iadd, 1) := by decide +kernel
theorem dX31_listed_15 : decode cX31_listed 15 = .ok (.putfield 82, 3) := by decide +kernel
theorem dX31_listed_18 : decode cX31_listed 18 = .ok (.iconst 0, 1) := by decide +kernel
theorem dX31_listed_19 : decode cX31_listed 19 = .ok (.istore 4, 2) := by decide +kernel
theorem dX31_listed_21 : decode cX31_listed 21 = .ok (.iload 4, 2) := by decide +kernel
theorem dX31_listed_23 : decode cX31_listed 23 = .ok (.iload_n 3, 1) := by decide +kernel
theorem dX31_listed_24 : decode cX31_listed 24 = .ok (.if_icmp .ge 122, 3) := by decide +kernel
theorem dX31_listed_27 : decode cX31_listed 27 = .ok (.bipush 27, 2) := by decide +kernel
theorem dX31_listed_29 : decode cX31_listed 29 = .ok (.iconst 3, 1) := by decide +kernel
theorem dX31_listed_30 : decode cX31_listed 30 = .ok (.iload 4, 2) := by decide +kernel
theorem dX31_listed_32 : decode cX31_listed 32 = .ok (.imul, 1) := by decide +kernel
theorem dX31_listed_33 : decode cX31_listed 33 = .ok (.iadd, 1) := by decide +kernel
theorem dX31_listed_34 : decode cX31_listed 34 = .ok (.istore 5, 2) := by decide +kernel
theorem dX31_listed_36 : decode cX31_listed 36 = .ok (.aload_n 0, 1) := by decide +kernel
theorem dX31_listed_37 : decode cX31_listed 37 = .ok (.getfield 79, 3) := by decide +kernel
theorem dX31_listed_40 : decode cX31_listed 40 = .ok (.sipush 200, 3) := by decide +kernel
theorem dX31_listed_43 : decode cX31_listed 43 = .ok (.if_icmp .eq 97, 3) := by decide +kernel
theorem dX31_listed_46 : decode cX31_listed 46 = .ok (.aload_n 0, 1) := by decide +kernel
theorem dX31_listed_47 : decode cX31_listed 47 = .ok (.aload_n 2, 1) := by decide +kernel
theorem dX31_listed_48 : decode cX31_listed 48 = .ok (.iload 5, 2) := by decide +kernel
theorem dX31_listed_50 : decode cX31_listed 50 = .ok (.iconst 1, 1) := by decide +kernel
theorem dX31_listed_51 : decode cX31_listed 51 = .ok (.invokevirtual 231, 3) := by decide +kernel
theorem dX31_listed_54 : decode cX31_listed 54 = .ok (.aload_n 2, 1) := by decide +kernel
theorem dX31_listed_55 : decode cX31_listed 55 = .ok (.iload 5, 2) := by decide +kernel
theorem dX31_listed_57 : decode cX31_listed 57 = .ok (.iconst 1, 1) := by decide +kernel
theorem dX31_listed_58 : decode cX31_listed 58 = .ok (.iadd, 1) := by decide +kernel
theorem dX31_listed_59 : decode cX31_listed 59 = .ok (.iconst 1, 1) := by decide +kernel
theorem dX31_listed_60 : decode cX31_listed 60 = .ok (.invokevirtual 231, 3) := by decide +kernel
theorem dX31_listed_63 : decode cX31_listed 63 = .ok (.iconst 0, 1) := by decide +kernel
theorem dX31_listed_64 : decode cX31_listed 64 = .ok (.aload_n 0, 1) := by decide +kernel
theorem dX31_listed_65 : decode cX31_listed 65 = .ok (.getfield 79, 3) := by decide +kernel
theorem dX31_listed_68 : decode cX31_listed 68 = .ok (.invokevirtual 234, 3) := by decide +kernel
theorem dX31_listed_71 : decode cX31_listed 71 = .ok (.iconst (-1), 1) := by decide +kernel
theorem dX31_listed_72 : decode cX31_listed 72 = .ok (.if_icmp .eq 6, 3) := by decide +kernel
theorem dX31_listed_75 : decode cX31_listed 75 = .ok (.goto 65, 3) := by decide +kernel
theorem dX31_listed_78 : decode cX31_listed 78 = .ok (.aload_n 0, 1) := by decide +kernel
theorem dX31_listed_79 : decode cX31_listed 79 = .ok (.getfield 30, 3) := by decide +kernel
theorem dX31_listed_82 : decode cX31_listed 82 = .ok (.aload_n 0, 1) := by decide +kernel
theorem dX31_listed_83 : decode cX31_listed 83 = .ok (.getfield 79, 3) := by decide +kernel
theorem dX31_listed_86 : decode cX31_listed 86 = .ok (.aload_n 2, 1) := by decide +kernel
theorem dX31_listed_87 : decode cX31_listed 87 = .ok (.iload 5, 2) := by decide +kernel
theorem dX31_listed_89 : decode cX31_listed 89 = .ok (.iconst 1, 1) := by decide +kernel
theorem dX31_listed_90 : decode cX31_listed 90 = .ok (.invokevirtual 231, 3) := by decide +kernel
theorem dX31_listed_93 : decode cX31_listed 93 = .ok (.iastore, 1) := by decide +kernel
theorem dX31_listed_94 : decode cX31_listed 94 = .ok (.aload_n 0, 1) := by decide +kernel
theorem dX31_listed_95 : decode cX31_listed 95 = .ok (.getfield 33, 3) := by decide +kernel
theorem dX31_listed_98 : decode cX31_listed 98 = .ok (.aload_n 0, 1) := by decide +kernel
theorem dX31_listed_99 : decode cX31_listed 99 = .ok (.getfield 79, 3) := by decide +kernel
theorem dX31_listed_102 : decode cX31_listed 102 = .ok (.aload_n 2, 1) := by decide +kernel
theorem dX31_listed_103 : decode cX31_listed 103 = .ok (.iload 5, 2) := by decide +kernel
theorem dX31_listed_105 : decode cX31_listed 105 = .ok (.iconst 1, 1) := by decide +kernel
theorem dX31_listed_106 : decode cX31_listed 106 = .ok (.iadd, 1) := by decide +kernel
theorem dX31_listed_107 : decode cX31_listed 107 = .ok (.iconst 1, 1) := by decide +kernel
theorem dX31_listed_108 : decode cX31_listed 108 = .ok (.invokevirtual 231, 3) := by decide +kernel
theorem dX31_listed_111 : decode cX31_listed 111 = .ok (.iastore, 1) := by decide +kernel
theorem dX31_listed_112 : decode cX31_listed 112 = .ok (.aload_n 0, 1) := by decide +kernel
theorem dX31_listed_113 : decode cX31_listed 113 = .ok (.getfield 36, 3) := by decide +kernel
theorem dX31_listed_116 : decode cX31_listed 116 = .ok (.aload_n 0, 1) := by decide +kernel
theorem dX31_listed_117 : decode cX31_listed 117 = .ok (.getfield 79, 3) := by decide +kernel
theorem dX31_listed_120 : decode cX31_listed 120 = .ok (.aload_n 2, 1) := by decide +kernel
theorem dX31_listed_121 : decode cX31_listed 121 = .ok (.iload 5, 2) := by decide +kernel
theorem dX31_listed_123 : decode cX31_listed 123 = .ok (.iconst 2, 1) := by decide +kernel
theorem dX31_listed_124 : decode cX31_listed 124 = .ok (.iadd, 1) := by decide +kernel
theorem dX31_listed_125 : decode cX31_listed 125 = .ok (.iconst 1, 1) := by decide +kernel
theorem dX31_listed_126 : decode cX31_listed 126 = .ok (.invokevirtual 231, 3) := by decide +kernel
theorem dX31_listed_129 : decode cX31_listed 129 = .ok (.iastore, 1) := by decide +kernel
theorem dX31_listed_130 : decode cX31_listed 130 = .ok (.aload_n 0, 1) := by decide +kernel
theorem dX31_listed_131 : decode cX31_listed 131 = .ok (.dup, 1) := by decide +kernel
theorem dX31_listed_132 : decode cX31_listed 132 = .ok (.getfield 79, 3) := by decide +kernel
theorem dX31_listed_135 : decode cX31_listed 135 = .ok (.iconst 1, 1) := by decide +kernel
theorem dX31_listed_136 : decode cX31_listed 136 = .ok (.iadd, 1) := by decide +kernel
theorem dX31_listed_137 : decode cX31_listed 137 = .ok (.putfield 79, 3) := by decide +kernel
theorem dX31_listed_140 : decode cX31_listed 140 = .ok (.iinc 4 1, 3) := by decide +kernel
theorem dX31_listed_143 : decode cX31_listed 143 = .ok (.goto (-122), 3) := by decide +kernel
theorem dX31_listed_146 : decode cX31_listed 146 = .ok (.aload_n 2, 1) := by decide +kernel
theorem dX31_listed_147 : decode cX31_listed 147 = .ok (.bipush 25, 2) := by decide +kernel
theorem dX31_listed_149 : decode cX31_listed 149 = .ok (.iconst 1, 1) := by decide +kernel
theorem dX31_listed_150 : decode cX31_listed 150 = .ok (.invokevirtual 231, 3) := by decide +kernel
theorem dX31_listed_153 : decode cX31_listed 153 = .ok (.iconst 1, 1) := by decide +kernel
theorem dX31_listed_154 : decode cX31_listed 154 = .ok (.if_icmp .ne 21, 3) := by decide +kernel
theorem dX31_listed_157 : decode cX31_listed 157 = .ok (.aload_n 0, 1) := by decide +kernel
theorem dX31_listed_158 : decode cX31_listed 158 = .ok (.getfield 79, 3) := by decide +kernel
theorem dX31_listed_161 : decode cX31_listed 161 = .ok (.sipush 200, 3) := by decide +kernel
theorem dX31_listed_164 : decode cX31_listed 164 = .ok (.if_icmp .ge 11, 3) := by decide +kernel
theorem dX31_listed_167 : decode cX31_listed 167 = .ok (.aload_n 0, 1) := by decide +kernel
theorem dX31_listed_168 : decode cX31_listed 168 = .ok (.aload_n 1, 1) := by decide +kernel
theorem dX31_listed_169 : decode cX31_listed 169 = .ok (.invokevirtual 105, 3) := by decide +kernel
theorem dX31_listed_172 : decode cX31_listed 172 = .ok (.goto 36, 3) := by decide +kernel
theorem dX31_listed_175 : decode cX31_listed 175 = .ok (.aload_n 0, 1) := by decide +kernel
theorem dX31_listed_176 : decode cX31_listed 176 = .ok (.getfield 68, 3) := by decide +kernel
theorem dX31_listed_179 : decode cX31_listed 179 = .ok (.iconst 1, 1) := by decide +kernel
theorem dX31_listed_180 : decode cX31_listed 180 = .ok (.if_icmp .eq 10, 3) := by decide +kernel
theorem dX31_listed_183 : decode cX31_listed 183 = .ok (.aload_n 0, 1) := by decide +kernel
theorem dX31_listed_184 : decode cX31_listed 184 = .ok (.getfield 79, 3) := by decide +kernel
theorem dX31_listed_187 : decode cX31_listed 187 = .ok (.ifCond .ne 11, 3) := by decide +kernel
theorem dX31_listed_190 : decode cX31_listed 190 = .ok (.aload_n 0, 1) := by decide +kernel
theorem dX31_listed_191 : decode cX31_listed 191 = .ok (.aload_n 1, 1) := by decide +kernel
theorem dX31_listed_192 : decode cX31_listed 192 = .ok (.invokevirtual 98, 3) := by decide +kernel
theorem dX31_listed_195 : decode cX31_listed 195 = .ok (.goto 13, 3) := by decide +kernel
theorem dX31_listed_198 : decode cX31_listed 198 = .ok (.aload_n 0, 1) := by decide +kernel
theorem dX31_listed_199 : decode cX31_listed 199 = .ok (.iconst 0, 1) := by decide +kernel
theorem dX31_listed_200 : decode cX31_listed 200 = .ok (.putfield 212, 3) := by decide +kernel
theorem dX31_listed_203 : decode cX31_listed 203 = .ok (.aload_n 0, 1) := by decide +kernel
theorem dX31_listed_204 : decode cX31_listed 204 = .ok (.aload_n 1, 1) := by decide +kernel
theorem dX31_listed_205 : decode cX31_listed 205 = .ok (.invokevirtual 238, 3) := by decide +kernel
theorem dX31_listed_208 : decode cX31_listed 208 = .ok (.return_, 1) := by decide +kernel
def j_X31_listed_208 (R : Nat → Int → Int → Int → MM → Option MM) (M : MM) : Option (MM) :=
  some M
def j_X31_listed_190 (R : Nat → Int → Int → Int → MM → Option MM) (x0 x1 : Int) (M : MM) : Option (MM) :=
  ck 31 x0 M <| (f_X31_finish x0 x1 M).bind fun M1 =>
  j_X31_listed_208 R M1
def j_X31_listed_175 (R : Nat → Int → Int → Int → MM → Option MM) (x0 x1 : Int) (M : MM) : Option (MM) :=
  (gfi 31 5 x0 M).bind fun v1 =>
  if w32 v1 = w32 1 then
    j_X31_listed_190 R x0 x1 M
  else
    (gfi 31 13 x0 M).bind fun v2 =>
    if w32 v2 = 0 then
      j_X31_listed_190 R x0 x1 M
    else
      (pfi 31 16 x0 0 M).bind fun M1 =>
      ck 31 x0 M1 <| (R 1 x0 x1 0 M1).bind fun M2 =>
      j_X31_listed_208 R M2
def j_X31_listed_146 (R : Nat → Int → Int → Int → MM → Option MM) (x0 x1 x2 : Int) (M : MM) : Option (MM) :=
  ck 4 x2 M <| (f_X4_get x2 25 1 M).bind fun v1 =>
  if w32 v1 = w32 1 then
    (gfi 31 13 x0 M).bind fun v2 =>
    if w32 v2 < w32 200 then
      ck 31 x0 M <| (R 4 x0 x1 0 M).bind fun M1 =>
      j_X31_listed_208 R M1
    else
      j_X31_listed_175 R x0 x1 M
  else
    j_X31_listed_175 R x0 x1 M
def j_X31_listed_140 (R : Nat → Int → Int → Int → MM → Option MM) (x0 x1 x2 x3 x4 : Int) (M : MM) : Option ((Int × MM) ⊕ (MM)) :=
  cnt (x4 + 1, M)
def j_X31_listed_130 (R : Nat → Int → Int → Int → MM → Option MM) (x0 x1 x2 x3 x4 : Int) (M : MM) : Option ((Int × MM) ⊕ (MM)) :=
  (gfi 31 13 x0 M).bind fun v1 =>
  (pfi 31 13 x0 (v1 + 1) M).bind fun M1 =>
  j_X31_listed_140 R x0 x1 x2 x3 x4 M1
def b_X31_listed_21 (R : Nat → Int → Int → Int → MM → Option MM) (x0 x1 x2 x3 x4 : Int) (M : MM) : Option ((Int × MM) ⊕ (MM)) :=
  if w32 x4 < w32 x3 then
    (gfi 31 13 x0 M).bind fun v1 =>
    if w32 v1 = w32 200 then
      j_X31_listed_140 R x0 x1 x2 x3 x4 M
    else
      ck 4 x2 M <| (f_X4_get x2 (27 + (3 * x4)) 1 M).bind fun v2 =>
      ck 4 x2 M <| (f_X4_get x2 ((27 + (3 * x4)) + 1) 1 M).bind fun v3 =>
      (gfi 31 13 x0 M).bind fun v4 =>
      ck 31 x0 M <| (f_X31_place x0 v2 v3 0 v4 M).bind fun v5 =>
      if w32 v5 = w32 (-1) then
        (gfr 31 9 x0 M).bind fun v6 =>
        (gfi 31 13 x0 M).bind fun v7 =>
        ck 4 x2 M <| (f_X4_get x2 (27 + (3 * x4)) 1 M).bind fun v8 =>
        (sai v6 v7 v8 M).bind fun M1 =>
        (gfr 31 10 x0 M1).bind fun v9 =>
        (gfi 31 13 x0 M1).bind fun v10 =>
        ck 4 x2 M1 <| (f_X4_get x2 ((27 + (3 * x4)) + 1) 1 M1).bind fun v11 =>
        (sai v9 v10 v11 M1).bind fun M2 =>
        (gfr 31 11 x0 M2).bind fun v12 =>
        (gfi 31 13 x0 M2).bind fun v13 =>
        ck 4 x2 M2 <| (f_X4_get x2 ((27 + (3 * x4)) + 2) 1 M2).bind fun v14 =>
        (sai v12 v13 v14 M2).bind fun M3 =>
        j_X31_listed_130 R x0 x1 x2 x3 x4 M3
      else
        j_X31_listed_140 R x0 x1 x2 x3 x4 M
  else
    xit (j_X31_listed_146 R x0 x1 x2 M)
def l_X31_listed_21 (R : Nat → Int → Int → Int → MM → Option MM) (x0 x1 x2 x3 x4 : Int) (M : MM) : Option (MM) := lpN (fun s : Int × MM => b_X31_listed_21 R x0 x1 x2 x3 s.1 s.2) FU (x4, M)
def f_X31_listed (R : Nat → Int → Int → Int → MM → Option MM) (x0 x1 x2 : Int) (M : MM) : Option (MM) :=
  ck 4 x2 M <| (f_X4_get x2 26 1 M).bind fun v1 =>
  (gfi 31 14 x0 M).bind fun v2 =>
  (pfi 31 14 x0 (v2 + v1) M).bind fun M1 =>
  l_X31_listed_21 R x0 x1 x2 v1 0 M1
theorem s_X31_listed_208 {g : GG} {d : Nat} (hD : 10 ≤ d) {R : Nat → Int → Int → Int → MM → Option MM} (hR : RH g d R) {M : MM} {o : AV × MM} {P : (MM) → Prop} (r0 : ∀ r : MM, P r → o = ((9, 0), r)) {z : MM} (h : j_X31_listed_208 R M = some z) (hz : P z) : Sem g d YX31_listed 208 [(9, 0), (9, 0), (9, 0), (9, 0), (9, 0), (9, 0)] [] M o := by
  delta j_X31_listed_208 at h
  obtain rfl := r0 _ (some_P (P := fun r => P r) h hz)
  exact S_return dX31_listed_208 rfl
theorem s_X31_listed_190 {g : GG} {d : Nat} (hD : 10 ≤ d) {R : Nat → Int → Int → Int → MM → Option MM} (hR : RH g d R) {x0 x1 : Int} {M : MM} {o : AV × MM} {P : (MM) → Prop} (r0 : ∀ r : MM, P r → o = ((9, 0), r)) {z : MM} (h : j_X31_listed_190 R x0 x1 M = some z) (hz : P z) : Sem g d YX31_listed 190 [(1, x0), (1, x1), (9, 0), (9, 0), (9, 0), (9, 0)] [] M o := by
  delta j_X31_listed_190 at h
  refine S_aload_n (i := 0) dX31_listed_190 rfl rfl ?_
  refine S_aload_n (i := 1) dX31_listed_191 rfl rfl ?_
  refine P_invVm' [(1, x1)] [] CVX31_finish MLX31_98 dX31_listed_192 rfl rfl rfl rfl (by omega) h (fun r h => F_X31_finish (by omega) h) (fun M1 h => ?_)
  refine S_goto (tgt := 208) dX31_listed_195 rfl ?_
  refine S_weak (ls' := [(9, 0), (9, 0), (9, 0), (9, 0), (9, 0), (9, 0)]) ⟨Or.inl rfl, ⟨Or.inl rfl, ⟨Or.inl rfl, ⟨Or.inl rfl, ⟨Or.inl rfl, ⟨Or.inl rfl, trivial⟩⟩⟩⟩⟩⟩ ?_
  exact s_X31_listed_208 hD hR r0 h hz
theorem s_X31_listed_175 {g : GG} {d : Nat} (hD : 10 ≤ d) {R : Nat → Int → Int → Int → MM → Option MM} (hR : RH g d R) {x0 x1 : Int} {M : MM} {o : AV × MM} {P : (MM) → Prop} (r0 : ∀ r : MM, P r → o = ((9, 0), r)) {z : MM} (h : j_X31_listed_175 R x0 x1 M = some z) (hz : P z) : Sem g d YX31_listed 175 [(1, x0), (1, x1), (9, 0), (9, 0), (9, 0), (9, 0)] [] M o := by
  delta j_X31_listed_175 at h
  refine S_aload_n (i := 0) dX31_listed_175 rfl rfl ?_
  refine P_gfi FLX31_68 rfl dX31_listed_176 h (fun v1 h => ?_)
  refine S_iconst dX31_listed_179 rfl ?_
  refine P_icmp_eq (tgt := 190) dX31_listed_180 rfl h (fun h => ?_) (fun h => ?_)
  · exact s_X31_listed_190 hD hR r0 h hz
  · refine S_aload_n (i := 0) dX31_listed_183 rfl rfl ?_
    refine P_gfi FLX31_79 rfl dX31_listed_184 h (fun v2 h => ?_)
    refine P_if_ne (tgt := 198) dX31_listed_187 rfl h (fun h => ?_) (fun h => ?_)
    · refine S_aload_n (i := 0) dX31_listed_198 rfl rfl ?_
      refine S_iconst dX31_listed_199 rfl ?_
      refine P_pfi FLX31_212 FPX31_212 rfl dX31_listed_200 h (fun M1 h => ?_)
      refine S_aload_n (i := 0) dX31_listed_203 rfl rfl ?_
      refine S_aload_n (i := 1) dX31_listed_204 rfl rfl ?_
      refine P_invVm' [(1, x1)] [] CVX31_check MLX31_238 dX31_listed_205 rfl rfl rfl rfl (by omega) h (fun r h => hR.2.1 _ _ _ _ h) (fun M2 h => ?_)
      refine S_weak (ls' := [(9, 0), (9, 0), (9, 0), (9, 0), (9, 0), (9, 0)]) ⟨Or.inl rfl, ⟨Or.inl rfl, ⟨Or.inl rfl, ⟨Or.inl rfl, ⟨Or.inl rfl, ⟨Or.inl rfl, trivial⟩⟩⟩⟩⟩⟩ ?_
      exact s_X31_listed_208 hD hR r0 h hz
    · exact s_X31_listed_190 hD hR r0 h hz
theorem s_X31_listed_146 {g : GG} {d : Nat} (hD : 10 ≤ d) {R : Nat → Int → Int → Int → MM → Option MM} (hR : RH g d R) {x0 x1 x2 : Int} {M : MM} {o : AV × MM} {P : (MM) → Prop} (r0 : ∀ r : MM, P r → o = ((9, 0), r)) {z : MM} (h : j_X31_listed_146 R x0 x1 x2 M = some z) (hz : P z) : Sem g d YX31_listed 146 [(1, x0), (1, x1), (1, x2), (9, 0), (9, 0), (9, 0)] [] M o := by
  delta j_X31_listed_146 at h
  refine S_aload_n (i := 2) dX31_listed_146 rfl rfl ?_
  refine S_bipush (z := 25) dX31_listed_147 rfl ?_
  refine S_iconst dX31_listed_149 rfl ?_
  refine P_invVp 0 [(0, 25), (0, 1)] [] CVX4_get MLX31_231 dX31_listed_150 rfl rfl rfl rfl rfl (by omega) h (fun r h => F_X4_get (by omega) h) (fun v1 h => ?_)
  refine S_iconst dX31_listed_153 rfl ?_
  refine P_icmp_ne (tgt := 175) dX31_listed_154 rfl h (fun h => ?_) (fun h => ?_)
  · refine S_weak (ls' := [(1, x0), (1, x1), (9, 0), (9, 0), (9, 0), (9, 0)]) ⟨Or.inr rfl, ⟨Or.inr rfl, ⟨Or.inl rfl, ⟨Or.inl rfl, ⟨Or.inl rfl, ⟨Or.inl rfl, trivial⟩⟩⟩⟩⟩⟩ ?_
    exact s_X31_listed_175 hD hR r0 h hz
  · refine S_aload_n (i := 0) dX31_listed_157 rfl rfl ?_
    refine P_gfi FLX31_79 rfl dX31_listed_158 h (fun v2 h => ?_)
    refine S_sipush (z := 200) dX31_listed_161 rfl ?_
    refine P_icmp_ge (tgt := 175) dX31_listed_164 rfl h (fun h => ?_) (fun h => ?_)
    · refine S_weak (ls' := [(1, x0), (1, x1), (9, 0), (9, 0), (9, 0), (9, 0)]) ⟨Or.inr rfl, ⟨Or.inr rfl, ⟨Or.inl rfl, ⟨Or.inl rfl, ⟨Or.inl rfl, ⟨Or.inl rfl, trivial⟩⟩⟩⟩⟩⟩ ?_
      exact s_X31_listed_175 hD hR r0 h hz
    · refine S_aload_n (i := 0) dX31_listed_167 rfl rfl ?_
      refine S_aload_n (i := 1) dX31_listed_168 rfl rfl ?_
      refine P_invVm' [(1, x1)] [] CVX31_list MLX31_105 dX31_listed_169 rfl rfl rfl rfl (by omega) h (fun r h => hR.2.2.2.2.1 _ _ _ _ h) (fun M1 h => ?_)
      refine S_goto (tgt := 208) dX31_listed_172 rfl ?_
      refine S_weak (ls' := [(9, 0), (9, 0), (9, 0), (9, 0), (9, 0), (9, 0)]) ⟨Or.inl rfl, ⟨Or.inl rfl, ⟨Or.inl rfl, ⟨Or.inl rfl, ⟨Or.inl rfl, ⟨Or.inl rfl, trivial⟩⟩⟩⟩⟩⟩ ?_
      exact s_X31_listed_208 hD hR r0 h hz
theorem s_X31_listed_140 {g : GG} {d : Nat} (hD : 10 ≤ d) {R : Nat → Int → Int → Int → MM → Option MM} (hR : RH g d R) {x0 x1 x2 x3 x4 : Int} {M : MM} {o : AV × MM} {P : ((Int × MM) ⊕ (MM)) → Prop} (c0 : ∀ s : Int × MM, P (.inl s) → Sem g d YX31_listed 21 [(1, x0), (1, x1), (1, x2), (0, x3), (0, s.1), (9, 0)] [] s.2 o) (r0 : ∀ r : MM, P (.inr r) → o = ((9, 0), r)) {z : (Int × MM) ⊕ (MM)} (h : j_X31_listed_140 R x0 x1 x2 x3 x4 M = some z) (hz : P z) : Sem g d YX31_listed 140 [(1, x0), (1, x1), (1, x2), (0, x3), (0, x4), (9, 0)] [] M o := by
  delta j_X31_listed_140 at h
  refine S_iinc dX31_listed_140 rfl rfl rfl ?_
  change Sem g d YX31_listed 143 [(1, x0), (1, x1), (1, x2), (0, x3), (0, x4 + 1), (9, 0)] [] M o
  refine S_goto (tgt := 21) dX31_listed_143 rfl ?_
  exact c0 (x4 + 1, M) (some_P (P := fun r => P r) h hz)
theorem s_X31_listed_130 {g : GG} {d : Nat} (hD : 10 ≤ d) {R : Nat → Int → Int → Int → MM → Option MM} (hR : RH g d R) {x0 x1 x2 x3 x4 : Int} {M : MM} {o : AV × MM} {P : ((Int × MM) ⊕ (MM)) → Prop} (c0 : ∀ s : Int × MM, P (.inl s) → Sem g d YX31_listed 21 [(1, x0), (1, x1), (1, x2), (0, x3), (0, s.1), (9, 0)] [] s.2 o) (r0 : ∀ r : MM, P (.inr r) → o = ((9, 0), r)) {z : (Int × MM) ⊕ (MM)} (h : j_X31_listed_130 R x0 x1 x2 x3 x4 M = some z) (hz : P z) : Sem g d YX31_listed 130 [(1, x0), (1, x1), (1, x2), (0, x3), (0, x4), (9, 0)] [] M o := by
  delta j_X31_listed_130 at h
  refine S_aload_n (i := 0) dX31_listed_130 rfl rfl ?_
  refine S_dup dX31_listed_131 (Nat.le_of_ble_eq_true rfl) ?_
  refine P_gfi FLX31_79 rfl dX31_listed_132 h (fun v1 h => ?_)
  refine S_iconst dX31_listed_135 rfl ?_
  refine S_iadd dX31_listed_136 ?_
  refine P_pfi FLX31_79 FPX31_79 rfl dX31_listed_137 h (fun M1 h => ?_)
  exact s_X31_listed_140 hD hR c0 r0 h hz
theorem s_X31_listed_21 {g : GG} {d : Nat} (hD : 10 ≤ d) {R : Nat → Int → Int → Int → MM → Option MM} (hR : RH g d R) {x0 x1 x2 x3 x4 : Int} {M : MM} {o : AV × MM} {P : ((Int × MM) ⊕ (MM)) → Prop} (c0 : ∀ s : Int × MM, P (.inl s) → Sem g d YX31_listed 21 [(1, x0), (1, x1), (1, x2), (0, x3), (0, s.1), (9, 0)] [] s.2 o) (r0 : ∀ r : MM, P (.inr r) → o = ((9, 0), r)) {z : (Int × MM) ⊕ (MM)} (h : b_X31_listed_21 R x0 x1 x2 x3 x4 M = some z) (hz : P z) : Sem g d YX31_listed 21 [(1, x0), (1, x1), (1, x2), (0, x3), (0, x4), (9, 0)] [] M o := by
  delta b_X31_listed_21 at h
  refine S_iload dX31_listed_21 rfl ?_
  refine S_iload_n (i := 3) dX31_listed_23 rfl rfl ?_
  refine P_icmp_ge (tgt := 146) dX31_listed_24 rfl h (fun h => ?_) (fun h => ?_)
  · refine S_weak (ls' := [(1, x0), (1, x1), (1, x2), (9, 0), (9, 0), (9, 0)]) ⟨Or.inr rfl, ⟨Or.inr rfl, ⟨Or.inr rfl, ⟨Or.inl rfl, ⟨Or.inl rfl, ⟨Or.inl rfl, trivial⟩⟩⟩⟩⟩⟩ ?_
    obtain ⟨z0, h, hz⟩ := xit_some' (P := fun r => P r) h hz
    exact s_X31_listed_146 hD hR (P := fun r => P (.inr r)) r0 h hz
  · refine S_bipush (z := 27) dX31_listed_27 rfl ?_
    refine S_iconst dX31_listed_29 rfl ?_
    refine S_iload dX31_listed_30 rfl ?_
    refine S_imul dX31_listed_32 ?_
    refine S_iadd dX31_listed_33 ?_
    refine S_istore dX31_listed_34 (Nat.le_of_ble_eq_true rfl) rfl rfl ?_
    change Sem g d YX31_listed 36 [(1, x0), (1, x1), (1, x2), (0, x3), (0, x4), (0, 27 + (3 * x4))] [] M o
    refine S_aload_n (i := 0) dX31_listed_36 rfl rfl ?_
    refine P_gfi FLX31_79 rfl dX31_listed_37 h (fun v1 h => ?_)
    refine S_sipush (z := 200) dX31_listed_40 rfl ?_
    refine P_icmp_eq (tgt := 140) dX31_listed_43 rfl h (fun h => ?_) (fun h => ?_)
    · refine S_weak (ls' := [(1, x0), (1, x1), (1, x2), (0, x3), (0, x4), (9, 0)]) ⟨Or.inr rfl, ⟨Or.inr rfl, ⟨Or.inr rfl, ⟨Or.inr rfl, ⟨Or.inr rfl, ⟨Or.inl rfl, trivial⟩⟩⟩⟩⟩⟩ ?_
      exact s_X31_listed_140 hD hR c0 r0 h hz
    · refine S_aload_n (i := 0) dX31_listed_46 rfl rfl ?_
      refine S_aload_n (i := 2) dX31_listed_47 rfl rfl ?_
      refine S_iload dX31_listed_48 rfl ?_
      refine S_iconst dX31_listed_50 rfl ?_
      refine P_invVp 0 [(0, 27 + (3 * x4)), (0, 1)] [(1, x0)] CVX4_get MLX31_231 dX31_listed_51 rfl rfl rfl rfl rfl (by omega) h (fun r h => F_X4_get (by omega) h) (fun v2 h => ?_)
      refine S_aload_n (i := 2) dX31_listed_54 rfl rfl ?_
      refine S_iload dX31_listed_55 rfl ?_
      refine S_iconst dX31_listed_57 rfl ?_
      refine S_iadd dX31_listed_58 ?_
      refine S_iconst dX31_listed_59 rfl ?_
      refine P_invVp 0 [(0, (27 + (3 * x4)) + 1), (0, 1)] [(0, v2), (1, x0)] CVX4_get MLX31_231 dX31_listed_60 rfl rfl rfl rfl rfl (by omega) h (fun r h => F_X4_get (by omega) h) (fun v3 h => ?_)
      refine S_iconst dX31_listed_63 rfl ?_
      refine S_aload_n (i := 0) dX31_listed_64 rfl rfl ?_
      refine P_gfi FLX31_79 rfl dX31_listed_65 h (fun v4 h => ?_)
      refine P_invVp 0 [(0, v2), (0, v3), (0, 0), (0, v4)] [] CVX31_place MLX31_234 dX31_listed_68 rfl rfl rfl rfl rfl (by omega) h (fun r h => F_X31_place (by omega) h) (fun v5 h => ?_)
      refine S_iconst dX31_listed_71 rfl ?_
      refine P_icmp_eq (tgt := 78) dX31_listed_72 rfl h (fun h => ?_) (fun h => ?_)
      · refine S_aload_n (i := 0) dX31_listed_78 rfl rfl ?_
        refine P_gfr FLX31_30 rfl dX31_listed_79 h (fun v6 h => ?_)
        refine S_aload_n (i := 0) dX31_listed_82 rfl rfl ?_
        refine P_gfi FLX31_79 rfl dX31_listed_83 h (fun v7 h => ?_)
        refine S_aload_n (i := 2) dX31_listed_86 rfl rfl ?_
        refine S_iload dX31_listed_87 rfl ?_
        refine S_iconst dX31_listed_89 rfl ?_
        refine P_invVp 0 [(0, 27 + (3 * x4)), (0, 1)] [(0, v7), (1, v6)] CVX4_get MLX31_231 dX31_listed_90 rfl rfl rfl rfl rfl (by omega) h (fun r h => F_X4_get (by omega) h) (fun v8 h => ?_)
        refine P_sai dX31_listed_93 h (fun M1 h => ?_)
        refine S_aload_n (i := 0) dX31_listed_94 rfl rfl ?_
        refine P_gfr FLX31_33 rfl dX31_listed_95 h (fun v9 h => ?_)
        refine S_aload_n (i := 0) dX31_listed_98 rfl rfl ?_
        refine P_gfi FLX31_79 rfl dX31_listed_99 h (fun v10 h => ?_)
        refine S_aload_n (i := 2) dX31_listed_102 rfl rfl ?_
        refine S_iload dX31_listed_103 rfl ?_
        refine S_iconst dX31_listed_105 rfl ?_
        refine S_iadd dX31_listed_106 ?_
        refine S_iconst dX31_listed_107 rfl ?_
        refine P_invVp 0 [(0, (27 + (3 * x4)) + 1), (0, 1)] [(0, v10), (1, v9)] CVX4_get MLX31_231 dX31_listed_108 rfl rfl rfl rfl rfl (by omega) h (fun r h => F_X4_get (by omega) h) (fun v11 h => ?_)
        refine P_sai dX31_listed_111 h (fun M2 h => ?_)
        refine S_aload_n (i := 0) dX31_listed_112 rfl rfl ?_
        refine P_gfr FLX31_36 rfl dX31_listed_113 h (fun v12 h => ?_)
        refine S_aload_n (i := 0) dX31_listed_116 rfl rfl ?_
        refine P_gfi FLX31_79 rfl dX31_listed_117 h (fun v13 h => ?_)
        refine S_aload_n (i := 2) dX31_listed_120 rfl rfl ?_
        refine S_iload dX31_listed_121 rfl ?_
        refine S_iconst dX31_listed_123 rfl ?_
        refine S_iadd dX31_listed_124 ?_
        refine S_iconst dX31_listed_125 rfl ?_
        refine P_invVp 0 [(0, (27 + (3 * x4)) + 2), (0, 1)] [(0, v13), (1, v12)] CVX4_get MLX31_231 dX31_listed_126 rfl rfl rfl rfl rfl (by omega) h (fun r h => F_X4_get (by omega) h) (fun v14 h => ?_)
        refine P_sai dX31_listed_129 h (fun M3 h => ?_)
        refine S_weak (ls' := [(1, x0), (1, x1), (1, x2), (0, x3), (0, x4), (9, 0)]) ⟨Or.inr rfl, ⟨Or.inr rfl, ⟨Or.inr rfl, ⟨Or.inr rfl, ⟨Or.inr rfl, ⟨Or.inl rfl, trivial⟩⟩⟩⟩⟩⟩ ?_
        exact s_X31_listed_130 hD hR c0 r0 h hz
      · refine S_goto (tgt := 140) dX31_listed_75 rfl ?_
        refine S_weak (ls' := [(1, x0), (1, x1), (1, x2), (0, x3), (0, x4), (9, 0)]) ⟨Or.inr rfl, ⟨Or.inr rfl, ⟨Or.inr rfl, ⟨Or.inr rfl, ⟨Or.inr rfl, ⟨Or.inl rfl, trivial⟩⟩⟩⟩⟩⟩ ?_
        exact s_X31_listed_140 hD hR c0 r0 h hz
theorem sl_X31_listed_21 {g : GG} {d : Nat} (hD : 10 ≤ d) {R : Nat → Int → Int → Int → MM → Option MM} (hR : RH g d R) {x0 x1 x2 x3 x4 : Int} {M : MM} {o : AV × MM} {P : (MM) → Prop} (r0 : ∀ r : MM, P r → o = ((9, 0), r)) {z : MM} (h : l_X31_listed_21 R x0 x1 x2 x3 x4 M = some z) (hz : P z) : Sem g d YX31_listed 21 [(1, x0), (1, x1), (1, x2), (0, x3), (0, x4), (9, 0)] [] M o := by
  refine lp_sound (S := fun s : Int × MM => Sem g d YX31_listed 21 [(1, x0), (1, x1), (1, x2), (0, x3), (0, s.1), (9, 0)] [] s.2 o) (P := P) ?_ FU (x4, M) z h hz
  intro s x hx hP
  exact s_X31_listed_21 hD hR (P := Sum.elim (fun s : Int × MM => Sem g d YX31_listed 21 [(1, x0), (1, x1), (1, x2), (0, x3), (0, s.1), (9, 0)] [] s.2 o) P) (fun s h => h) (fun s h => r0 s h) hx hP
theorem s_X31_listed_0 {g : GG} {d : Nat} (hD : 10 ≤ d) {R : Nat → Int → Int → Int → MM → Option MM} (hR : RH g d R) {x0 x1 x2 : Int} {M : MM} {o : AV × MM} {P : (MM) → Prop} (r0 : ∀ r : MM, P r → o = ((9, 0), r)) {z : MM} (h : f_X31_listed R x0 x1 x2 M = some z) (hz : P z) : Sem g d YX31_listed 0 [(1, x0), (1, x1), (1, x2), (9, 0), (9, 0), (9, 0)] [] M o := by
  delta f_X31_listed at h
  refine S_aload_n (i := 2) dX31_listed_0 rfl rfl ?_
  refine S_bipush (z := 26) dX31_listed_1 rfl ?_
  refine S_iconst dX31_listed_3 rfl ?_
  refine P_invVp 0 [(0, 26), (0, 1)] [] CVX4_get MLX31_231 dX31_listed_4 rfl rfl rfl rfl rfl (by omega) h (fun r h => F_X4_get (by omega) h) (fun v1 h => ?_)
  refine S_istore_n (i := 3) dX31_listed_7 rfl (Nat.le_of_ble_eq_true rfl) rfl rfl ?_
  change Sem g d YX31_listed 8 [(1, x0), (1, x1), (1, x2), (0, v1), (9, 0), (9, 0)] [] M o
  refine S_aload_n (i := 0) dX31_listed_8 rfl rfl ?_
  refine S_dup dX31_listed_9 (Nat.le_of_ble_eq_true rfl) ?_
  refine P_gfi FLX31_82 rfl dX31_listed_10 h (fun v2 h => ?_)
  refine S_iload_n (i := 3) dX31_listed_13 rfl rfl ?_
  refine S_iadd dX31_listed_14 ?_
  refine P_pfi FLX31_82 FPX31_82 rfl dX31_listed_15 h (fun M1 h => ?_)
  refine S_iconst dX31_listed_18 rfl ?_
  refine S_istore dX31_listed_19 (Nat.le_of_ble_eq_true rfl) rfl rfl ?_
  change Sem g d YX31_listed 21 [(1, x0), (1, x1), (1, x2), (0, v1), (0, 0), (9, 0)] [] M1 o
  exact sl_X31_listed_21 hD hR r0 h hz
theorem Fr_X31_listed {g : GG} {d : Nat} (hD : 10 ≤ d) {R : Nat → Int → Int → Int → MM → Option MM} (hR : RH g d R) {x0 x1 x2 : Int} {M : MM} {r : MM} (h : f_X31_listed R x0 x1 x2 M = some r) : Sem g d YX31_listed 0 (ini YX31_listed [(1, x0), (1, x1), (1, x2)]) [] M ((9, 0), r) := by
  change Sem g d YX31_listed 0 [(1, x0), (1, x1), (1, x2), (9, 0), (9, 0), (9, 0)] [] M ((9, 0), r)
  exact s_X31_listed_0 hD hR (P := fun x => x = r) (fun q e => by rw [e]) h rfl
def fREC : Nat → Nat → Int → Int → Int → MM → Option MM
  | 0 => fun _ _ _ _ _ => none
  | n + 1 => fun sel x0 x1 x2 M => if sel = 0 then f_X31_answered (fREC n) x0 x1 x2 M else if sel = 1 then f_X31_check (fREC n) x0 x1 M else if sel = 2 then f_X31_checked (fREC n) x0 x1 x2 M else if sel = 3 then f_X31_consult (fREC n) x0 x1 x2 M else if sel = 4 then f_X31_list (fREC n) x0 x1 M else if sel = 5 then f_X31_listed (fREC n) x0 x1 x2 M else none
theorem RH_ok {g : GG} : ∀ (n d : Nat), n + 10 ≤ d → RH g (d + 1) (fREC n)
  | 0, d, _ => ⟨(fun _ _ _ _ _ h => by cases h), (fun _ _ _ _ h => by cases h), (fun _ _ _ _ _ h => by cases h), (fun _ _ _ _ _ h => by cases h), (fun _ _ _ _ h => by cases h), (fun _ _ _ _ _ h => by cases h)⟩
  | n + 1, 0, h => absurd h (by omega)
  | n + 1, d + 1, h => by
    have ih := RH_ok (g := g) n d (by omega)
    exact ⟨fun _ _ _ _ _ h1 => Fr_X31_answered (by omega) ih h1, fun _ _ _ _ h1 => Fr_X31_check (by omega) ih h1, fun _ _ _ _ _ h1 => Fr_X31_checked (by omega) ih h1, fun _ _ _ _ _ h1 => Fr_X31_consult (by omega) ih h1, fun _ _ _ _ h1 => Fr_X31_list (by omega) ih h1, fun _ _ _ _ _ h1 => Fr_X31_listed (by omega) ih h1⟩
theorem FRECX31_answered {g : GG} {d : Nat} (hD : 210 ≤ d) {x0 x1 x2 : Int} {M r : MM} (h : fREC 200 0 x0 x1 x2 M = some r) : Sem g d YX31_answered 0 (ini YX31_answered [(1, x0), (1, x1), (1, x2)]) [] M ((9, 0), r) := (RH_ok 200 d (by omega)).1 x0 x1 x2 _ _ h
theorem FRECX31_check {g : GG} {d : Nat} (hD : 210 ≤ d) {x0 x1 : Int} {M r : MM} (h : fREC 200 1 x0 x1 0 M = some r) : Sem g d YX31_check 0 (ini YX31_check [(1, x0), (1, x1)]) [] M ((9, 0), r) := (RH_ok 200 d (by omega)).2.1 x0 x1 _ _ h
theorem FRECX31_checked {g : GG} {d : Nat} (hD : 210 ≤ d) {x0 x1 x2 : Int} {M r : MM} (h : fREC 200 2 x0 x1 x2 M = some r) : Sem g d YX31_checked 0 (ini YX31_checked [(1, x0), (1, x1), (1, x2)]) [] M ((9, 0), r) := (RH_ok 200 d (by omega)).2.2.1 x0 x1 x2 _ _ h
theorem FRECX31_consult {g : GG} {d : Nat} (hD : 210 ≤ d) {x0 x1 x2 : Int} {M r : MM} (h : fREC 200 3 x0 x1 x2 M = some r) : Sem g d YX31_consult 0 (ini YX31_consult [(1, x0), (1, x1), (0, x2)]) [] M ((9, 0), r) := (RH_ok 200 d (by omega)).2.2.2.1 x0 x1 x2 _ _ h
theorem FRECX31_list {g : GG} {d : Nat} (hD : 210 ≤ d) {x0 x1 : Int} {M r : MM} (h : fREC 200 4 x0 x1 0 M = some r) : Sem g d YX31_list 0 (ini YX31_list [(1, x0), (1, x1)]) [] M ((9, 0), r) := (RH_ok 200 d (by omega)).2.2.2.2.1 x0 x1 _ _ h
theorem FRECX31_listed {g : GG} {d : Nat} (hD : 210 ≤ d) {x0 x1 x2 : Int} {M r : MM} (h : fREC 200 5 x0 x1 x2 M = some r) : Sem g d YX31_listed 0 (ini YX31_listed [(1, x0), (1, x1), (1, x2)]) [] M ((9, 0), r) := (RH_ok 200 d (by omega)).2.2.2.2.2 x0 x1 x2 _ _ h
/-! PeerSearch$Lookup.front(I)LPeerSearch$Entry; -/
theorem dX15_front_0 : decode cX15_front 0 = .ok (.iload_n 1, 1) := by decide +kernel
theorem dX15_front_1 : decode cX15_front 1 = .ok (.istore_n 2, 1) := by decide +kernel
theorem dX15_front_2 : decode cX15_front 2 = .ok (.iload_n 1, 1) := by decide +kernel
theorem dX15_front_3 : decode cX15_front 3 = .ok (.aload_n 0, 1) := by decide +kernel
theorem dX15_front_4 : decode cX15_front 4 = .ok (.getfield 24, 3) := by decide +kernel
theorem dX15_front_7 : decode cX15_front 7 = .ok (.if_icmp .lt 5, 3) := by decide +kernel
theorem dX15_front_10 : decode cX15_front 10 = .ok (.aconst_null, 1) := by decide +kernel
theorem dX15_front_11 : decode cX15_front 11 = .ok (.areturn, 1) := by decide +kernel
theorem dX15_front_12 : decode cX15_front 12 = .ok (.iconst 0, 1) := by decide +kernel
theorem dX15_front_13 : decode cX15_front 13 = .ok (.istore_n 3, 1) := by decide +kernel
theorem dX15_front_14 : decode cX15_front 14 = .ok (.iload_n 3, 1) := by decide +kernel
theorem dX15_front_15 : decode cX15_front 15 = .ok (.aload_n 0, 1) := by decide +kernel
theorem dX15_front_16 : decode cX15_front 16 = .ok (.getfield 36, 3) := by decide +kernel
theorem dX15_front_19 : decode cX15_front 19 = .ok (.if_icmp .ge 39, 3) := by decide +kernel
theorem dX15_front_22 : decode cX15_front 22 = .ok (.aload_n 0, 1) := by decide +kernel
theorem dX15_front_23 : decode cX15_front 23 = .ok (.getfield 11, 3) := by decide +kernel
theorem dX15_front_26 : decode cX15_front 26 = .ok (.iload_n 3, 1) := by decide +kernel
theorem dX15_front_27 : decode cX15_front 27 = .ok (.aaload, 1) := by decide +kernel
theorem dX15_front_28 : decode cX15_front 28 = .ok (.getfield 57, 3) := by decide +kernel
theorem dX15_front_31 : decode cX15_front 31 = .ok (.iconst 3, 1) := by decide +kernel
theorem dX15_front_32 : decode cX15_front 32 = .ok (.if_icmp .ne 6, 3) := by decide +kernel
theorem dX15_front_35 : decode cX15_front 35 = .ok (.goto 17, 3) := by decide +kernel
theorem dX15_front_38 : decode cX15_front 38 = .ok (.iload_n 2, 1) := by decide +kernel
theorem dX15_front_39 : decode cX15_front 39 = .ok (.ifCond .ne 10, 3) := by decide +kernel
theorem dX15_front_42 : decode cX15_front 42 = .ok (.aload_n 0, 1) := by decide +kernel
theorem dX15_front_43 : decode cX15_front 43 = .ok (.getfield 11, 3) := by decide +kernel
theorem dX15_front_46 : decode cX15_front 46 = .ok (.iload_n 3, 1) := by decide +kernel
theorem dX15_front_47 : decode cX15_front 47 = .ok (.aaload, 1) := by decide +kernel
theorem dX15_front_48 : decode cX15_front 48 = .ok (.areturn, 1) := by decide +kernel
theorem dX15_front_49 : decode cX15_front 49 = .ok (.iinc 2 (-1), 3) := by decide +kernel
theorem dX15_front_52 : decode cX15_front 52 = .ok (.iinc 3 1, 3) := by decide +kernel
theorem dX15_front_55 : decode cX15_front 55 = .ok (.goto (-41), 3) := by decide +kernel
theorem dX15_front_58 : decode cX15_front 58 = .ok (.aconst_null, 1) := by decide +kernel
theorem dX15_front_59 : decode cX15_front 59 = .ok (.areturn, 1) := by decide +kernel
def j_X15_front_52 (x0 x2 x3 : Int) (M : MM) : Option ((Int × Int) ⊕ (Int)) :=
  cnt (x2, x3 + 1)
def j_X15_front_42 (x0 x3 : Int) (M : MM) : Option (Int) :=
  (gfr 15 0 x0 M).bind fun v1 =>
  (lar 8 v1 x3 M).bind fun v2 =>
  some v2
def b_X15_front_14 (x0 x2 x3 : Int) (M : MM) : Option ((Int × Int) ⊕ (Int)) :=
  (gfi 15 3 x0 M).bind fun v1 =>
  if w32 x3 < w32 v1 then
    (gfr 15 0 x0 M).bind fun v2 =>
    (lar 8 v2 x3 M).bind fun v3 =>
    (gfi 27 2 v3 M).bind fun v4 =>
    if w32 v4 = w32 3 then
      j_X15_front_52 x0 x2 x3 M
    else
      if w32 x2 = 0 then
        xit (j_X15_front_42 x0 x3 M)
      else
        j_X15_front_52 x0 (x2 + (-1)) x3 M
  else
    xit (some (-1))
def l_X15_front_14 (x0 x2 x3 : Int) (M : MM) : Option (Int) := lpN (fun s : Int × Int => b_X15_front_14 x0 s.1 s.2 M) FU (x2, x3)
def f_X15_front (x0 x1 : Int) (M : MM) : Option (Int) :=
  (gfi 15 2 x0 M).bind fun v1 =>
  if w32 x1 < w32 v1 then
    l_X15_front_14 x0 x1 0 M
  else
    some (-1)
theorem s_X15_front_52 {g : GG} {d : Nat} (hD : 0 ≤ d) {x0 x2 x3 : Int} {M : MM} {o : AV × MM} {P : ((Int × Int) ⊕ (Int)) → Prop} (c0 : ∀ s : Int × Int, P (.inl s) → Sem g d YX15_front 14 [(1, x0), (9, 0), (0, s.1), (0, s.2)] [] M o) (r0 : ∀ r : Int, P (.inr r) → o = ((1, r), M)) {z : (Int × Int) ⊕ (Int)} (h : j_X15_front_52 x0 x2 x3 M = some z) (hz : P z) : Sem g d YX15_front 52 [(1, x0), (9, 0), (0, x2), (0, x3)] [] M o := by
  delta j_X15_front_52 at h
  refine S_iinc dX15_front_52 rfl rfl rfl ?_
  change Sem g d YX15_front 55 [(1, x0), (9, 0), (0, x2), (0, x3 + 1)] [] M o
  refine S_goto (tgt := 14) dX15_front_55 rfl ?_
  exact c0 (x2, x3 + 1) (some_P (P := fun r => P r) h hz)
theorem s_X15_front_42 {g : GG} {d : Nat} (hD : 0 ≤ d) {x0 x3 : Int} {M : MM} {o : AV × MM} {P : (Int) → Prop} (r0 : ∀ r : Int, P r → o = ((1, r), M)) {z : Int} (h : j_X15_front_42 x0 x3 M = some z) (hz : P z) : Sem g d YX15_front 42 [(1, x0), (9, 0), (9, 0), (0, x3)] [] M o := by
  delta j_X15_front_42 at h
  refine S_aload_n (i := 0) dX15_front_42 rfl rfl ?_
  refine P_gfr FLX15_11 rfl dX15_front_43 h (fun v1 h => ?_)
  refine S_iload_n (i := 3) dX15_front_46 rfl rfl ?_
  refine P_lar (t := 8) ⟨by decide, by decide⟩ dX15_front_47 h (fun v2 h => ?_)
  obtain rfl := r0 _ (some_P (P := fun r => P r) h hz)
  exact S_areturn dX15_front_48 ⟨_, rfl, Or.inl ⟨_, rfl⟩⟩
theorem s_X15_front_14 {g : GG} {d : Nat} (hD : 0 ≤ d) {x0 x2 x3 : Int} {M : MM} {o : AV × MM} {P : ((Int × Int) ⊕ (Int)) → Prop} (c0 : ∀ s : Int × Int, P (.inl s) → Sem g d YX15_front 14 [(1, x0), (9, 0), (0, s.1), (0, s.2)] [] M o) (r0 : ∀ r : Int, P (.inr r) → o = ((1, r), M)) {z : (Int × Int) ⊕ (Int)} (h : b_X15_front_14 x0 x2 x3 M = some z) (hz : P z) : Sem g d YX15_front 14 [(1, x0), (9, 0), (0, x2), (0, x3)] [] M o := by
  delta b_X15_front_14 at h
  refine S_iload_n (i := 3) dX15_front_14 rfl rfl ?_
  refine S_aload_n (i := 0) dX15_front_15 rfl rfl ?_
  refine P_gfi FLX15_36 rfl dX15_front_16 h (fun v1 h => ?_)
  refine P_icmp_ge (tgt := 58) dX15_front_19 rfl h (fun h => ?_) (fun h => ?_)
  · obtain ⟨z0, h, hz⟩ := xit_some' (P := fun r => P r) h hz
    refine S_null dX15_front_58 ?_
    obtain rfl := r0 _ (some_P (P := fun r => P (.inr r)) h hz)
    exact S_areturn dX15_front_59 ⟨_, rfl, Or.inl ⟨_, rfl⟩⟩
  · refine S_aload_n (i := 0) dX15_front_22 rfl rfl ?_
    refine P_gfr FLX15_11 rfl dX15_front_23 h (fun v2 h => ?_)
    refine S_iload_n (i := 3) dX15_front_26 rfl rfl ?_
    refine P_lar (t := 8) ⟨by decide, by decide⟩ dX15_front_27 h (fun v3 h => ?_)
    refine P_gfi FLX15_57 rfl dX15_front_28 h (fun v4 h => ?_)
    refine S_iconst dX15_front_31 rfl ?_
    refine P_icmp_ne (tgt := 38) dX15_front_32 rfl h (fun h => ?_) (fun h => ?_)
    · refine S_iload_n (i := 2) dX15_front_38 rfl rfl ?_
      refine P_if_ne (tgt := 49) dX15_front_39 rfl h (fun h => ?_) (fun h => ?_)
      · refine S_iinc dX15_front_49 rfl rfl rfl ?_
        change Sem g d YX15_front 52 [(1, x0), (9, 0), (0, x2 + (-1)), (0, x3)] [] M o
        exact s_X15_front_52 hD c0 r0 h hz
      · refine S_weak (ls' := [(1, x0), (9, 0), (9, 0), (0, x3)]) ⟨Or.inr rfl, ⟨Or.inl rfl, ⟨Or.inl rfl, ⟨Or.inr rfl, trivial⟩⟩⟩⟩ ?_
        obtain ⟨z0, h, hz⟩ := xit_some' (P := fun r => P r) h hz
        exact s_X15_front_42 hD (P := fun r => P (.inr r)) r0 h hz
    · refine S_goto (tgt := 52) dX15_front_35 rfl ?_
      exact s_X15_front_52 hD c0 r0 h hz
theorem sl_X15_front_14 {g : GG} {d : Nat} (hD : 0 ≤ d) {x0 x2 x3 : Int} {M : MM} {o : AV × MM} {P : (Int) → Prop} (r0 : ∀ r : Int, P r → o = ((1, r), M)) {z : Int} (h : l_X15_front_14 x0 x2 x3 M = some z) (hz : P z) : Sem g d YX15_front 14 [(1, x0), (9, 0), (0, x2), (0, x3)] [] M o := by
  refine lp_sound (S := fun s : Int × Int => Sem g d YX15_front 14 [(1, x0), (9, 0), (0, s.1), (0, s.2)] [] M o) (P := P) ?_ FU (x2, x3) z h hz
  intro s x hx hP
  exact s_X15_front_14 hD (P := Sum.elim (fun s : Int × Int => Sem g d YX15_front 14 [(1, x0), (9, 0), (0, s.1), (0, s.2)] [] M o) P) (fun s h => h) (fun s h => r0 s h) hx hP
theorem s_X15_front_0 {g : GG} {d : Nat} (hD : 0 ≤ d) {x0 x1 : Int} {M : MM} {o : AV × MM} {P : (Int) → Prop} (r0 : ∀ r : Int, P r → o = ((1, r), M)) {z : Int} (h : f_X15_front x0 x1 M = some z) (hz : P z) : Sem g d YX15_front 0 [(1, x0), (0, x1), (9, 0), (9, 0)] [] M o := by
  delta f_X15_front at h
  refine S_iload_n (i := 1) dX15_front_0 rfl rfl ?_
  refine S_istore_n (i := 2) dX15_front_1 rfl (Nat.le_of_ble_eq_true rfl) rfl rfl ?_
  change Sem g d YX15_front 2 [(1, x0), (0, x1), (0, x1), (9, 0)] [] M o
  refine S_iload_n (i := 1) dX15_front_2 rfl rfl ?_
  refine S_aload_n (i := 0) dX15_front_3 rfl rfl ?_
  refine P_gfi FLX15_24 rfl dX15_front_4 h (fun v1 h => ?_)
  refine P_icmp_lt (tgt := 12) dX15_front_7 rfl h (fun h => ?_) (fun h => ?_)
  · refine S_iconst dX15_front_12 rfl ?_
    refine S_istore_n (i := 3) dX15_front_13 rfl (Nat.le_of_ble_eq_true rfl) rfl rfl ?_
    change Sem g d YX15_front 14 [(1, x0), (0, x1), (0, x1), (0, 0)] [] M o
    refine S_weak (ls' := [(1, x0), (9, 0), (0, x1), (0, 0)]) ⟨Or.inr rfl, ⟨Or.inl rfl, ⟨Or.inr rfl, ⟨Or.inr rfl, trivial⟩⟩⟩⟩ ?_
    exact sl_X15_front_14 hD r0 h hz
  · refine S_null dX15_front_10 ?_
    obtain rfl := r0 _ (some_P (P := fun r => P r) h hz)
    exact S_areturn dX15_front_11 ⟨_, rfl, Or.inl ⟨_, rfl⟩⟩
theorem F_X15_front {g : GG} {d : Nat} (hD : 0 ≤ d) {x0 x1 : Int} {M : MM} {r : Int} (h : f_X15_front x0 x1 M = some r) : Sem g d YX15_front 0 (ini YX15_front [(1, x0), (0, x1)]) [] M ((1, r), M) := by
  change Sem g d YX15_front 0 [(1, x0), (0, x1), (9, 0), (9, 0)] [] M ((1, r), M)
  exact s_X15_front_0 hD (P := fun x => x = r) (fun q e => by rw [e]) h rfl
/-! PeerSearch$Asking.isHeld(LPeerSearch$Work;)Z -/
theorem dX31_isHeld_0 : decode cX31_isHeld 0 = .ok (.iconst 0, 1) := by decide +kernel
theorem dX31_isHeld_1 : decode cX31_isHeld 1 = .ok (.istore_n 2, 1) := by decide +kernel
theorem dX31_isHeld_2 : decode cX31_isHeld 2 = .ok (.aload_n 1, 1) := by decide +kernel
theorem dX31_isHeld_3 : decode cX31_isHeld 3 = .ok (.getfield 130, 3) := by decide +kernel
theorem dX31_isHeld_6 : decode cX31_isHeld 6 = .ok (.iload_n 2, 1) := by decide +kernel
theorem dX31_isHeld_7 : decode cX31_isHeld 7 = .ok (.invokevirtual 134, 3) := by decide +kernel
theorem dX31_isHeld_10 : decode cX31_isHeld 10 = .ok (.ifnull 113, 3) := by decide +kernel
theorem dX31_isHeld_13 : decode cX31_isHeld 13 = .ok (.aload_n 1, 1) := by decide +kernel
theorem dX31_isHeld_14 : decode cX31_isHeld 14 = .ok (.getfield 130, 3) := by decide +kernel
theorem dX31_isHeld_17 : decode cX31_isHeld 17 = .ok (.iload_n 2, 1) := by decide +kernel
theorem dX31_isHeld_18 : decode cX31_isHeld 18 = .ok (.invokevirtual 134, 3) := by decide +kernel
theorem dX31_isHeld_21 : decode cX31_isHeld 21 = .ok (.astore_n 3, 1) := by decide +kernel
theorem dX31_isHeld_22 : decode cX31_isHeld 22 = .ok (.aload_n 3, 1) := by decide +kernel
theorem dX31_isHeld_23 : decode cX31_isHeld 23 = .ok (.getfield 140, 3) := by decide +kernel
theorem dX31_isHeld_26 : decode cX31_isHeld 26 = .ok (.aload_n 1, 1) := by decide +kernel
theorem dX31_isHeld_27 : decode cX31_isHeld 27 = .ok (.getfield 111, 3) := by decide +kernel
theorem dX31_isHeld_30 : decode cX31_isHeld 30 = .ok (.getfield 146, 3) := by decide +kernel
theorem dX31_isHeld_33 : decode cX31_isHeld 33 = .ok (.invokevirtual 147, 3) := by decide +kernel
theorem dX31_isHeld_36 : decode cX31_isHeld 36 = .ok (.ifCond .eq 25, 3) := by decide +kernel
theorem dX31_isHeld_39 : decode cX31_isHeld 39 = .ok (.aload_n 1, 1) := by decide +kernel
theorem dX31_isHeld_40 : decode cX31_isHeld 40 = .ok (.getfield 111, 3) := by decide +kernel
theorem dX31_isHeld_43 : decode cX31_isHeld 43 = .ok (.getfield 151, 3) := by decide +kernel
theorem dX31_isHeld_46 : decode cX31_isHeld 46 = .ok (.aload_n 0, 1) := by decide +kernel
theorem dX31_isHeld_47 : decode cX31_isHeld 47 = .ok (.getfield 11, 3) := by decide +kernel
theorem dX31_isHeld_50 : decode cX31_isHeld 50 = .ok (.aload_n 0, 1) := by decide +kernel
theorem dX31_isHeld_51 : decode cX31_isHeld 51 = .ok (.getfield 76, 3) := by decide +kernel
theorem dX31_isHeld_54 : decode cX31_isHeld 54 = .ok (.aaload, 1) := by decide +kernel
theorem dX31_isHeld_55 : decode cX31_isHeld 55 = .ok (.invokevirtual 155, 3) := by decide +kernel
theorem dX31_isHeld_58 : decode cX31_isHeld 58 = .ok (.goto 7, 3) := by decide +kernel
theorem dX31_isHeld_61 : decode cX31_isHeld 61 = .ok (.aload_n 3, 1) := by decide +kernel
theorem dX31_isHeld_62 : decode cX31_isHeld 62 = .ok (.getfield 161, 3) := by decide +kernel
theorem dX31_isHeld_65 : decode cX31_isHeld 65 = .ok (.istore 4, 2) := by decide +kernel
theorem dX31_isHeld_67 : decode cX31_isHeld 67 = .ok (.iload 4, 2) := by decide +kernel
theorem dX31_isHeld_69 : decode cX31_isHeld 69 = .ok (.ifCond .ne 6, 3) := by decide +kernel
theorem dX31_isHeld_72 : decode cX31_isHeld 72 = .ok (.goto 45, 3) := by decide +kernel
theorem dX31_isHeld_75 : decode cX31_isHeld 75 = .ok (.aload_n 0, 1) := by decide +kernel
theorem dX31_isHeld_76 : decode cX31_isHeld 76 = .ok (.getfield 17, 3) := by decide +kernel
theorem dX31_isHeld_79 : decode cX31_isHeld 79 = .ok (.aload_n 0, 1) := by decide +kernel
theorem dX31_isHeld_80 : decode cX31_isHeld 80 = .ok (.getfield 76, 3) := by decide +kernel
theorem dX31_isHeld_83 : decode cX31_isHeld 83 = .ok (.aaload, 1) := by decide +kernel
theorem dX31_isHeld_84 : decode cX31_isHeld 84 = .ok (.aload_n 3, 1) := by decide +kernel
theorem dX31_isHeld_85 : decode cX31_isHeld 85 = .ok (.getfield 140, 3) := by decide +kernel
theorem dX31_isHeld_88 : decode cX31_isHeld 88 = .ok (.invokevirtual 72, 3) := by decide +kernel
theorem dX31_isHeld_91 : decode cX31_isHeld 91 = .ok (.aload_n 0, 1) := by decide +kernel
theorem dX31_isHeld_92 : decode cX31_isHeld 92 = .ok (.getfield 24, 3) := by decide +kernel
theorem dX31_isHeld_95 : decode cX31_isHeld 95 = .ok (.aload_n 0, 1) := by decide +kernel
theorem dX31_isHeld_96 : decode cX31_isHeld 96 = .ok (.getfield 76, 3) := by decide +kernel
theorem dX31_isHeld_99 : decode cX31_isHeld 99 = .ok (.aload_n 3, 1) := by decide +kernel
theorem dX31_isHeld_100 : decode cX31_isHeld 100 = .ok (.getfield 163, 3) := by decide +kernel
theorem dX31_isHeld_103 : decode cX31_isHeld 103 = .ok (.iastore, 1) := by decide +kernel
theorem dX31_isHeld_104 : decode cX31_isHeld 104 = .ok (.aload_n 0, 1) := by decide +kernel
theorem dX31_isHeld_105 : decode cX31_isHeld 105 = .ok (.getfield 20, 3) := by decide +kernel
theorem dX31_isHeld_108 : decode cX31_isHeld 108 = .ok (.aload_n 0, 1) := by decide +kernel
theorem dX31_isHeld_109 : decode cX31_isHeld 109 = .ok (.getfield 76, 3) := by decide +kernel
theorem dX31_isHeld_112 : decode cX31_isHeld 112 = .ok (.iload 4, 2) := by decide +kernel
theorem dX31_isHeld_114 : decode cX31_isHeld 114 = .ok (.iastore, 1) := by decide +kernel
theorem dX31_isHeld_115 : decode cX31_isHeld 115 = .ok (.iconst 1, 1) := by decide +kernel
theorem dX31_isHeld_116 : decode cX31_isHeld 116 = .ok (.ireturn, 1) := by decide +kernel
theorem dX31_isHeld_117 : decode cX31_isHeld 117 = .ok (.iinc 2 1, 3) := by decide +kernel
theorem dX31_isHeld_120 : decode cX31_isHeld 120 = .ok (.goto (-118), 3) := by decide +kernel
theorem dX31_isHeld_123 : decode cX31_isHeld 123 = .ok (.iconst 0, 1) := by decide +kernel
theorem dX31_isHeld_124 : decode cX31_isHeld 124 = .ok (.ireturn, 1) := by decide +kernel
def j_X31_isHeld_75 (x0 x3 x4 : Int) (M : MM) : Option (Int × MM) :=
  (gfr 31 1 x0 M).bind fun v1 =>
  (gfi 31 6 x0 M).bind fun v2 =>
  (lar 13 v1 v2 M).bind fun v3 =>
  (gfr 27 0 x3 M).bind fun v4 =>
  ck 3 v3 M <| (f_X3_set v3 v4 M).bind fun M1 =>
  (gfr 31 3 x0 M1).bind fun v5 =>
  (gfi 31 6 x0 M1).bind fun v6 =>
  (gfi 27 1 x3 M1).bind fun v7 =>
  (sai v5 v6 v7 M1).bind fun M2 =>
  (gfr 31 2 x0 M2).bind fun v8 =>
  (gfi 31 6 x0 M2).bind fun v9 =>
  (sai v8 v9 x4 M2).bind fun M3 =>
  some (1, M3)
def j_X31_isHeld_65 (x0 x1 x2 x3 y0 : Int) (M : MM) : Option ((Int) ⊕ (Int × MM)) :=
  if w32 y0 = 0 then
    cnt (x2 + 1)
  else
    xit (j_X31_isHeld_75 x0 x3 y0 M)
def b_X31_isHeld_2 (x0 x1 x2 : Int) (M : MM) : Option ((Int) ⊕ (Int × MM)) :=
  (gfr 11 1 x1 M).bind fun v1 =>
  ck 15 v1 M <| (f_X15_front v1 x2 M).bind fun v2 =>
  if v2 = -1 then
    xit (some (0, M))
  else
    (gfr 11 1 x1 M).bind fun v3 =>
    ck 15 v3 M <| (f_X15_front v3 x2 M).bind fun v4 =>
    (gfr 27 0 v4 M).bind fun v5 =>
    (gfr 11 2 x1 M).bind fun v6 =>
    (gfr 17 2 v6 M).bind fun v7 =>
    ck 3 v5 M <| (f_X3_is v5 v7 M).bind fun v8 =>
    if w32 v8 = 0 then
      (gfi 27 3 v4 M).bind fun v9 =>
      j_X31_isHeld_65 x0 x1 x2 v4 v9 M
    else
      (gfr 11 2 x1 M).bind fun v10 =>
      (gfr 17 6 v10 M).bind fun v11 =>
      (gfr 31 0 x0 M).bind fun v12 =>
      (gfi 31 6 x0 M).bind fun v13 =>
      (lar 13 v12 v13 M).bind fun v14 =>
      ck 18 v11 M <| (f_X18_count v11 v14 M).bind fun v15 =>
      j_X31_isHeld_65 x0 x1 x2 v4 v15 M
def l_X31_isHeld_2 (x0 x1 x2 : Int) (M : MM) : Option (Int × MM) := lpN (fun s : Int => b_X31_isHeld_2 x0 x1 s M) FU x2
def f_X31_isHeld (x0 x1 : Int) (M : MM) : Option (Int × MM) :=
  l_X31_isHeld_2 x0 x1 0 M
theorem s_X31_isHeld_75 {g : GG} {d : Nat} (hD : 7 ≤ d) {x0 x3 x4 : Int} {M : MM} {o : AV × MM} {P : (Int × MM) → Prop} (r0 : ∀ r : Int × MM, P r → o = ((0, r.1), r.2)) {z : Int × MM} (h : j_X31_isHeld_75 x0 x3 x4 M = some z) (hz : P z) : Sem g d YX31_isHeld 75 [(1, x0), (9, 0), (9, 0), (1, x3), (0, x4)] [] M o := by
  delta j_X31_isHeld_75 at h
  refine S_aload_n (i := 0) dX31_isHeld_75 rfl rfl ?_
  refine P_gfr FLX31_17 rfl dX31_isHeld_76 h (fun v1 h => ?_)
  refine S_aload_n (i := 0) dX31_isHeld_79 rfl rfl ?_
  refine P_gfi FLX31_76 rfl dX31_isHeld_80 h (fun v2 h => ?_)
  refine P_lar (t := 13) ⟨by decide, by decide⟩ dX31_isHeld_83 h (fun v3 h => ?_)
  refine S_aload_n (i := 3) dX31_isHeld_84 rfl rfl ?_
  refine P_gfr FLX31_140 rfl dX31_isHeld_85 h (fun v4 h => ?_)
  refine P_invVm' [(1, v4)] [] CVX3_set MLX31_72 dX31_isHeld_88 rfl rfl rfl rfl (by omega) h (fun r h => F_X3_set (by omega) h) (fun M1 h => ?_)
  refine S_aload_n (i := 0) dX31_isHeld_91 rfl rfl ?_
  refine P_gfr FLX31_24 rfl dX31_isHeld_92 h (fun v5 h => ?_)
  refine S_aload_n (i := 0) dX31_isHeld_95 rfl rfl ?_
  refine P_gfi FLX31_76 rfl dX31_isHeld_96 h (fun v6 h => ?_)
  refine S_aload_n (i := 3) dX31_isHeld_99 rfl rfl ?_
  refine P_gfi FLX31_163 rfl dX31_isHeld_100 h (fun v7 h => ?_)
  refine P_sai dX31_isHeld_103 h (fun M2 h => ?_)
  refine S_aload_n (i := 0) dX31_isHeld_104 rfl rfl ?_
  refine P_gfr FLX31_20 rfl dX31_isHeld_105 h (fun v8 h => ?_)
  refine S_aload_n (i := 0) dX31_isHeld_108 rfl rfl ?_
  refine P_gfi FLX31_76 rfl dX31_isHeld_109 h (fun v9 h => ?_)
  refine S_iload dX31_isHeld_112 rfl ?_
  refine P_sai dX31_isHeld_114 h (fun M3 h => ?_)
  refine S_iconst dX31_isHeld_115 rfl ?_
  obtain rfl := r0 _ (some_P (P := fun r => P r) h hz)
  exact P_ret dX31_isHeld_116 rfl (Or.inr ⟨rfl, Or.inr rfl⟩)
theorem s_X31_isHeld_65 {g : GG} {d : Nat} (hD : 7 ≤ d) {x0 x1 x2 x3 y0 : Int} {M : MM} {o : AV × MM} {P : ((Int) ⊕ (Int × MM)) → Prop} (c0 : ∀ s : Int, P (.inl s) → Sem g d YX31_isHeld 2 [(1, x0), (1, x1), (0, s), (9, 0), (9, 0)] [] M o) (r0 : ∀ r : Int × MM, P (.inr r) → o = ((0, r.1), r.2)) {z : (Int) ⊕ (Int × MM)} (h : j_X31_isHeld_65 x0 x1 x2 x3 y0 M = some z) (hz : P z) : Sem g d YX31_isHeld 65 [(1, x0), (1, x1), (0, x2), (1, x3), (9, 0)] [(0, y0)] M o := by
  delta j_X31_isHeld_65 at h
  refine S_istore dX31_isHeld_65 (Nat.le_of_ble_eq_true rfl) rfl rfl ?_
  change Sem g d YX31_isHeld 67 [(1, x0), (1, x1), (0, x2), (1, x3), (0, y0)] [] M o
  refine S_iload dX31_isHeld_67 rfl ?_
  refine P_if_ne (tgt := 75) dX31_isHeld_69 rfl h (fun h => ?_) (fun h => ?_)
  · refine S_weak (ls' := [(1, x0), (9, 0), (9, 0), (1, x3), (0, y0)]) ⟨Or.inr rfl, ⟨Or.inl rfl, ⟨Or.inl rfl, ⟨Or.inr rfl, ⟨Or.inr rfl, trivial⟩⟩⟩⟩⟩ ?_
    obtain ⟨z0, h, hz⟩ := xit_some' (P := fun r => P r) h hz
    exact s_X31_isHeld_75 hD (P := fun r => P (.inr r)) r0 h hz
  · refine S_goto (tgt := 117) dX31_isHeld_72 rfl ?_
    refine S_iinc dX31_isHeld_117 rfl rfl rfl ?_
    change Sem g d YX31_isHeld 120 [(1, x0), (1, x1), (0, x2 + 1), (1, x3), (0, y0)] [] M o
    refine S_goto (tgt := 2) dX31_isHeld_120 rfl ?_
    refine S_weak (ls' := [(1, x0), (1, x1), (0, x2 + 1), (9, 0), (9, 0)]) ⟨Or.inr rfl, ⟨Or.inr rfl, ⟨Or.inr rfl, ⟨Or.inl rfl, ⟨Or.inl rfl, trivial⟩⟩⟩⟩⟩ ?_
    exact c0 (x2 + 1) (some_P (P := fun r => P r) h hz)
theorem s_X31_isHeld_2 {g : GG} {d : Nat} (hD : 7 ≤ d) {x0 x1 x2 : Int} {M : MM} {o : AV × MM} {P : ((Int) ⊕ (Int × MM)) → Prop} (c0 : ∀ s : Int, P (.inl s) → Sem g d YX31_isHeld 2 [(1, x0), (1, x1), (0, s), (9, 0), (9, 0)] [] M o) (r0 : ∀ r : Int × MM, P (.inr r) → o = ((0, r.1), r.2)) {z : (Int) ⊕ (Int × MM)} (h : b_X31_isHeld_2 x0 x1 x2 M = some z) (hz : P z) : Sem g d YX31_isHeld 2 [(1, x0), (1, x1), (0, x2), (9, 0), (9, 0)] [] M o := by
  delta b_X31_isHeld_2 at h
  refine S_aload_n (i := 1) dX31_isHeld_2 rfl rfl ?_
  refine P_gfr FLX31_130 rfl dX31_isHeld_3 h (fun v1 h => ?_)
  refine S_iload_n (i := 2) dX31_isHeld_6 rfl rfl ?_
  refine P_invVp 1 [(0, x2)] [] CVX15_front MLX31_134 dX31_isHeld_7 rfl rfl rfl rfl rfl (by omega) h (fun r h => F_X15_front (by omega) h) (fun v2 h => ?_)
  refine P_ifnull (tgt := 123) dX31_isHeld_10 rfl h (fun h => ?_) (fun h => ?_)
  · obtain ⟨z0, h, hz⟩ := xit_some' (P := fun r => P r) h hz
    refine S_iconst dX31_isHeld_123 rfl ?_
    obtain rfl := r0 _ (some_P (P := fun r => P (.inr r)) h hz)
    exact P_ret dX31_isHeld_124 rfl (Or.inr ⟨rfl, Or.inl rfl⟩)
  · refine S_aload_n (i := 1) dX31_isHeld_13 rfl rfl ?_
    refine P_gfr FLX31_130 rfl dX31_isHeld_14 h (fun v3 h => ?_)
    refine S_iload_n (i := 2) dX31_isHeld_17 rfl rfl ?_
    refine P_invVp 1 [(0, x2)] [] CVX15_front MLX31_134 dX31_isHeld_18 rfl rfl rfl rfl rfl (by omega) h (fun r h => F_X15_front (by omega) h) (fun v4 h => ?_)
    refine S_astore_n (i := 3) dX31_isHeld_21 rfl (Nat.le_of_ble_eq_true rfl) rfl rfl ?_
    change Sem g d YX31_isHeld 22 [(1, x0), (1, x1), (0, x2), (1, v4), (9, 0)] [] M o
    refine S_aload_n (i := 3) dX31_isHeld_22 rfl rfl ?_
    refine P_gfr FLX31_140 rfl dX31_isHeld_23 h (fun v5 h => ?_)
    refine S_aload_n (i := 1) dX31_isHeld_26 rfl rfl ?_
    refine P_gfr FLX31_111 rfl dX31_isHeld_27 h (fun v6 h => ?_)
    refine P_gfr FLX31_146 rfl dX31_isHeld_30 h (fun v7 h => ?_)
    refine P_invVp 0 [(1, v7)] [] CVX3_is MLX31_147 dX31_isHeld_33 rfl rfl rfl rfl rfl (by omega) h (fun r h => F_X3_is (by omega) h) (fun v8 h => ?_)
    refine P_if_eq (tgt := 61) dX31_isHeld_36 rfl h (fun h => ?_) (fun h => ?_)
    · refine S_aload_n (i := 3) dX31_isHeld_61 rfl rfl ?_
      refine P_gfi FLX31_161 rfl dX31_isHeld_62 h (fun v9 h => ?_)
      exact s_X31_isHeld_65 hD c0 r0 h hz
    · refine S_aload_n (i := 1) dX31_isHeld_39 rfl rfl ?_
      refine P_gfr FLX31_111 rfl dX31_isHeld_40 h (fun v10 h => ?_)
      refine P_gfr FLX31_151 rfl dX31_isHeld_43 h (fun v11 h => ?_)
      refine S_aload_n (i := 0) dX31_isHeld_46 rfl rfl ?_
      refine P_gfr FLX31_11 rfl dX31_isHeld_47 h (fun v12 h => ?_)
      refine S_aload_n (i := 0) dX31_isHeld_50 rfl rfl ?_
      refine P_gfi FLX31_76 rfl dX31_isHeld_51 h (fun v13 h => ?_)
      refine P_lar (t := 13) ⟨by decide, by decide⟩ dX31_isHeld_54 h (fun v14 h => ?_)
      refine P_invVp 0 [(1, v14)] [] CVX18_count MLX31_155 dX31_isHeld_55 rfl rfl rfl rfl rfl (by omega) h (fun r h => F_X18_count (by omega) h) (fun v15 h => ?_)
      refine S_goto (tgt := 65) dX31_isHeld_58 rfl ?_
      exact s_X31_isHeld_65 hD c0 r0 h hz
theorem sl_X31_isHeld_2 {g : GG} {d : Nat} (hD : 7 ≤ d) {x0 x1 x2 : Int} {M : MM} {o : AV × MM} {P : (Int × MM) → Prop} (r0 : ∀ r : Int × MM, P r → o = ((0, r.1), r.2)) {z : Int × MM} (h : l_X31_isHeld_2 x0 x1 x2 M = some z) (hz : P z) : Sem g d YX31_isHeld 2 [(1, x0), (1, x1), (0, x2), (9, 0), (9, 0)] [] M o := by
  refine lp_sound (S := fun s : Int => Sem g d YX31_isHeld 2 [(1, x0), (1, x1), (0, s), (9, 0), (9, 0)] [] M o) (P := P) ?_ FU x2 z h hz
  intro s x hx hP
  exact s_X31_isHeld_2 hD (P := Sum.elim (fun s : Int => Sem g d YX31_isHeld 2 [(1, x0), (1, x1), (0, s), (9, 0), (9, 0)] [] M o) P) (fun s h => h) (fun s h => r0 s h) hx hP
theorem s_X31_isHeld_0 {g : GG} {d : Nat} (hD : 7 ≤ d) {x0 x1 : Int} {M : MM} {o : AV × MM} {P : (Int × MM) → Prop} (r0 : ∀ r : Int × MM, P r → o = ((0, r.1), r.2)) {z : Int × MM} (h : f_X31_isHeld x0 x1 M = some z) (hz : P z) : Sem g d YX31_isHeld 0 [(1, x0), (1, x1), (9, 0), (9, 0), (9, 0)] [] M o := by
  delta f_X31_isHeld at h
  refine S_iconst dX31_isHeld_0 rfl ?_
  refine S_istore_n (i := 2) dX31_isHeld_1 rfl (Nat.le_of_ble_eq_true rfl) rfl rfl ?_
  change Sem g d YX31_isHeld 2 [(1, x0), (1, x1), (0, 0), (9, 0), (9, 0)] [] M o
  exact sl_X31_isHeld_2 hD r0 h hz
theorem F_X31_isHeld {g : GG} {d : Nat} (hD : 7 ≤ d) {x0 x1 : Int} {M : MM} {r : Int × MM} (h : f_X31_isHeld x0 x1 M = some r) : Sem g d YX31_isHeld 0 (ini YX31_isHeld [(1, x0), (1, x1)]) [] M ((0, r.1), r.2) := by
  change Sem g d YX31_isHeld 0 [(1, x0), (1, x1), (9, 0), (9, 0), (9, 0)] [] M ((0, r.1), r.2)
  exact s_X31_isHeld_0 hD (P := fun x => x = r) (fun q e => by rw [e]) h rfl
/-! PeerSearch$Asking.looked(LPeerSearch$Work;)Z -/
theorem dX31_looked_0 : decode cX31_looked 0 = .ok (.aload_n 0, 1) := by decide +kernel
theorem dX31_looked_1 : decode cX31_looked 1 = .ok (.aload_n 1, 1) := by decide +kernel
theorem dX31_looked_2 : decode cX31_looked 2 = .ok (.invokevirtual 94, 3) := by decide +kernel
theorem dX31_looked_5 : decode cX31_looked 5 = .ok (.ifCond .ne 10, 3) := by decide +kernel
theorem dX31_looked_8 : decode cX31_looked 8 = .ok (.aload_n 0, 1) := by decide +kernel
theorem dX31_looked_9 : decode cX31_looked 9 = .ok (.aload_n 1, 1) := by decide +kernel
theorem dX31_looked_10 : decode cX31_looked 10 = .ok (.invokevirtual 98, 3) := by decide +kernel
theorem dX31_looked_13 : decode cX31_looked 13 = .ok (.iconst 0, 1) := by decide +kernel
theorem dX31_looked_14 : decode cX31_looked 14 = .ok (.ireturn, 1) := by decide +kernel
theorem dX31_looked_15 : decode cX31_looked 15 = .ok (.aload_n 0, 1) := by decide +kernel
theorem dX31_looked_16 : decode cX31_looked 16 = .ok (.dup, 1) := by decide +kernel
theorem dX31_looked_17 : decode cX31_looked 17 = .ok (.getfield 76, 3) := by decide +kernel
theorem dX31_looked_20 : decode cX31_looked 20 = .ok (.iconst 1, 1) := by decide +kernel
theorem dX31_looked_21 : decode cX31_looked 21 = .ok (.iadd, 1) := by decide +kernel
theorem dX31_looked_22 : decode cX31_looked 22 = .ok (.putfield 76, 3) := by decide +kernel
theorem dX31_looked_25 : decode cX31_looked 25 = .ok (.aload_n 0, 1) := by decide +kernel
theorem dX31_looked_26 : decode cX31_looked 26 = .ok (.getfield 76, 3) := by decide +kernel
theorem dX31_looked_29 : decode cX31_looked 29 = .ok (.aload_n 0, 1) := by decide +kernel
theorem dX31_looked_30 : decode cX31_looked 30 = .ok (.getfield 68, 3) := by decide +kernel
theorem dX31_looked_33 : decode cX31_looked 33 = .ok (.if_icmp .ge 18, 3) := by decide +kernel
theorem dX31_looked_36 : decode cX31_looked 36 = .ok (.aload_n 1, 1) := by decide +kernel
theorem dX31_looked_37 : decode cX31_looked 37 = .ok (.aload_n 0, 1) := by decide +kernel
theorem dX31_looked_38 : decode cX31_looked 38 = .ok (.getfield 11, 3) := by decide +kernel
theorem dX31_looked_41 : decode cX31_looked 41 = .ok (.aload_n 0, 1) := by decide +kernel
theorem dX31_looked_42 : decode cX31_looked 42 = .ok (.getfield 76, 3) := by decide +kernel
theorem dX31_looked_45 : decode cX31_looked 45 = .ok (.aaload, 1) := by decide +kernel
theorem dX31_looked_46 : decode cX31_looked 46 = .ok (.iconst 1, 1) := by decide +kernel
theorem dX31_looked_47 : decode cX31_looked 47 = .ok (.invokevirtual 88, 3) := by decide +kernel
theorem dX31_looked_50 : decode cX31_looked 50 = .ok (.ireturn, 1) := by decide +kernel
theorem dX31_looked_51 : decode cX31_looked 51 = .ok (.aload_n 0, 1) := by decide +kernel
theorem dX31_looked_52 : decode cX31_looked 52 = .ok (.invokevirtual 102, 3) := by decide +kernel
theorem dX31_looked_55 : decode cX31_looked 55 = .ok (.aload_n 0, 1) := by decide +kernel
theorem dX31_looked_56 : decode cX31_looked 56 = .ok (.getfield 68, 3) := by decide +kernel
theorem dX31_looked_59 : decode cX31_looked 59 = .ok (.iconst 1, 1) := by decide +kernel
theorem dX31_looked_60 : decode cX31_looked 60 = .ok (.if_icmp .ne 11, 3) := by decide +kernel
theorem dX31_looked_63 : decode cX31_looked 63 = .ok (.aload_n 0, 1) := by decide +kernel
theorem dX31_looked_64 : decode cX31_looked 64 = .ok (.aload_n 1, 1) := by decide +kernel
theorem dX31_looked_65 : decode cX31_looked 65 = .ok (.invokevirtual 105, 3) := by decide +kernel
theorem dX31_looked_68 : decode cX31_looked 68 = .ok (.goto 44, 3) := by decide +kernel
theorem dX31_looked_71 : decode cX31_looked 71 = .ok (.aload_n 0, 1) := by decide +kernel
theorem dX31_looked_72 : decode cX31_looked 72 = .ok (.iconst 0, 1) := by decide +kernel
theorem dX31_looked_73 : decode cX31_looked 73 = .ok (.putfield 108, 3) := by decide +kernel
theorem dX31_looked_76 : decode cX31_looked 76 = .ok (.aload_n 1, 1) := by decide +kernel
theorem dX31_looked_77 : decode cX31_looked 77 = .ok (.getfield 111, 3) := by decide +kernel
theorem dX31_looked_80 : decode cX31_looked 80 = .ok (.bipush 9, 2) := by decide +kernel
theorem dX31_looked_82 : decode cX31_looked 82 = .ok (.invokevirtual 115, 3) := by decide +kernel
theorem dX31_looked_85 : decode cX31_looked 85 = .ok (.astore_n 2, 1) := by decide +kernel
theorem dX31_looked_86 : decode cX31_looked 86 = .ok (.aload_n 2, 1) := by decide +kernel
theorem dX31_looked_87 : decode cX31_looked 87 = .ok (.aload_n 0, 1) := by decide +kernel
theorem dX31_looked_88 : decode cX31_looked 88 = .ok (.getfield 11, 3) := by decide +kernel
theorem dX31_looked_91 : decode cX31_looked 91 = .ok (.aload_n 0, 1) := by decide +kernel
theorem dX31_looked_92 : decode cX31_looked 92 = .ok (.getfield 27, 3) := by decide +kernel
theorem dX31_looked_95 : decode cX31_looked 95 = .ok (.iconst 0, 1) := by decide +kernel
theorem dX31_looked_96 : decode cX31_looked 96 = .ok (.iaload, 1) := by decide +kernel
theorem dX31_looked_97 : decode cX31_looked 97 = .ok (.aaload, 1) := by decide +kernel
theorem dX31_looked_98 : decode cX31_looked 98 = .ok (.invokevirtual 121, 3) := by decide +kernel
theorem dX31_looked_101 : decode cX31_looked 101 = .ok (.aload_n 0, 1) := by decide +kernel
theorem dX31_looked_102 : decode cX31_looked 102 = .ok (.aload_n 1, 1) := by decide +kernel
theorem dX31_looked_103 : decode cX31_looked 103 = .ok (.aload_n 0, 1) := by decide +kernel
theorem dX31_looked_104 : decode cX31_looked 104 = .ok (.getfield 27, 3) := by decide +kernel
theorem dX31_looked_107 : decode cX31_looked 107 = .ok (.iconst 0, 1) := by decide +kernel
theorem dX31_looked_108 : decode cX31_looked 108 = .ok (.iaload, 1) := by decide +kernel
theorem dX31_looked_109 : decode cX31_looked 109 = .ok (.invokevirtual 126, 3) := by decide +kernel
theorem dX31_looked_112 : decode cX31_looked 112 = .ok (.iconst 0, 1) := by decide +kernel
theorem dX31_looked_113 : decode cX31_looked 113 = .ok (.ireturn, 1) := by decide +kernel
def j_X31_looked_112 (M : MM) : Option (Int × MM) :=
  some (0, M)
def f_X31_looked (x0 x1 : Int) (M : MM) : Option (Int × MM) :=
  ck 31 x0 M <| (f_X31_isHeld x0 x1 M).bind fun r1 =>
  if w32 r1.1 = 0 then
    ck 31 x0 r1.2 <| (f_X31_finish x0 x1 r1.2).bind fun M7 =>
    some (0, M7)
  else
    (gfi 31 6 x0 r1.2).bind fun v1 =>
    (pfi 31 6 x0 (v1 + 1) r1.2).bind fun M1 =>
    (gfi 31 6 x0 M1).bind fun v2 =>
    (gfi 31 5 x0 M1).bind fun v3 =>
    if w32 v2 < w32 v3 then
      (gfr 31 0 x0 M1).bind fun v12 =>
      (gfi 31 6 x0 M1).bind fun v13 =>
      (lar 13 v12 v13 M1).bind fun v14 =>
      ck 11 x1 M1 <| (f_X11_look x1 v14 1 M1).bind fun r3 =>
      bz r3.1 (some (r3.1, r3.2))
    else
      ck 31 x0 M1 <| (f_X31_arrange x0 M1).bind fun M2 =>
      (gfi 31 5 x0 M2).bind fun v4 =>
      if w32 v4 = w32 1 then
        ck 31 x0 M2 <| (fREC 200 4 x0 x1 0 M2).bind fun M6 =>
        j_X31_looked_112 M6
      else
        (pfi 31 7 x0 0 M2).bind fun M3 =>
        (gfr 11 2 x1 M3).bind fun v5 =>
        ck 17 v5 M3 <| (f_X17_begin v5 9 M3).bind fun r2 =>
        (gfr 31 0 x0 r2.2).bind fun v6 =>
        (gfr 31 4 x0 r2.2).bind fun v7 =>
        (lai v7 0 r2.2).bind fun v8 =>
        (lar 13 v6 v8 r2.2).bind fun v9 =>
        ck 4 r2.1 r2.2 <| (f_X4_putKey r2.1 v9 r2.2).bind fun M4 =>
        (gfr 31 4 x0 M4).bind fun v10 =>
        (lai v10 0 M4).bind fun v11 =>
        ck 31 x0 M4 <| (fREC 200 3 x0 x1 v11 M4).bind fun M5 =>
        j_X31_looked_112 M5
theorem s_X31_looked_112 {g : GG} {d : Nat} (hD : 211 ≤ d) {M : MM} {o : AV × MM} {P : (Int × MM) → Prop} (r0 : ∀ r : Int × MM, P r → o = ((0, r.1), r.2)) {z : Int × MM} (h : j_X31_looked_112 M = some z) (hz : P z) : Sem g d YX31_looked 112 [(9, 0), (9, 0), (9, 0)] [] M o := by
  delta j_X31_looked_112 at h
  refine S_iconst dX31_looked_112 rfl ?_
  obtain rfl := r0 _ (some_P (P := fun r => P r) h hz)
  exact P_ret dX31_looked_113 rfl (Or.inr ⟨rfl, Or.inl rfl⟩)
theorem s_X31_looked_0 {g : GG} {d : Nat} (hD : 211 ≤ d) {x0 x1 : Int} {M : MM} {o : AV × MM} {P : (Int × MM) → Prop} (r0 : ∀ r : Int × MM, P r → o = ((0, r.1), r.2)) {z : Int × MM} (h : f_X31_looked x0 x1 M = some z) (hz : P z) : Sem g d YX31_looked 0 [(1, x0), (1, x1), (9, 0)] [] M o := by
  delta f_X31_looked at h
  refine S_aload_n (i := 0) dX31_looked_0 rfl rfl ?_
  refine S_aload_n (i := 1) dX31_looked_1 rfl rfl ?_
  refine P_invVe 0 [(1, x1)] [] CVX31_isHeld MLX31_94 dX31_looked_2 rfl rfl rfl rfl rfl (by omega) h (fun r h => F_X31_isHeld (by omega) h) (fun r1 h => ?_)
  refine P_if_ne (tgt := 15) dX31_looked_5 rfl h (fun h => ?_) (fun h => ?_)
  · refine S_aload_n (i := 0) dX31_looked_15 rfl rfl ?_
    refine S_dup dX31_looked_16 (Nat.le_of_ble_eq_true rfl) ?_
    refine P_gfi FLX31_76 rfl dX31_looked_17 h (fun v1 h => ?_)
    refine S_iconst dX31_looked_20 rfl ?_
    refine S_iadd dX31_looked_21 ?_
    refine P_pfi FLX31_76 FPX31_76 rfl dX31_looked_22 h (fun M1 h => ?_)
    refine S_aload_n (i := 0) dX31_looked_25 rfl rfl ?_
    refine P_gfi FLX31_76 rfl dX31_looked_26 h (fun v2 h => ?_)
    refine S_aload_n (i := 0) dX31_looked_29 rfl rfl ?_
    refine P_gfi FLX31_68 rfl dX31_looked_30 h (fun v3 h => ?_)
    refine P_icmp_ge (tgt := 51) dX31_looked_33 rfl h (fun h => ?_) (fun h => ?_)
    · refine S_aload_n (i := 0) dX31_looked_51 rfl rfl ?_
      refine P_invVm' [] [] CVX31_arrange MLX31_102 dX31_looked_52 rfl rfl rfl rfl (by omega) h (fun r h => F_X31_arrange (by omega) h) (fun M2 h => ?_)
      refine S_aload_n (i := 0) dX31_looked_55 rfl rfl ?_
      refine P_gfi FLX31_68 rfl dX31_looked_56 h (fun v4 h => ?_)
      refine S_iconst dX31_looked_59 rfl ?_
      refine P_icmp_ne (tgt := 71) dX31_looked_60 rfl h (fun h => ?_) (fun h => ?_)
      · refine S_aload_n (i := 0) dX31_looked_71 rfl rfl ?_
        refine S_iconst dX31_looked_72 rfl ?_
        refine P_pfi FLX31_108 FPX31_108 rfl dX31_looked_73 h (fun M3 h => ?_)
        refine S_aload_n (i := 1) dX31_looked_76 rfl rfl ?_
        refine P_gfr FLX31_111 rfl dX31_looked_77 h (fun v5 h => ?_)
        refine S_bipush (z := 9) dX31_looked_80 rfl ?_
        refine P_invVe 1 [(0, 9)] [] CVX17_begin MLX31_115 dX31_looked_82 rfl rfl rfl rfl rfl (by omega) h (fun r h => F_X17_begin (by omega) h) (fun r2 h => ?_)
        refine S_astore_n (i := 2) dX31_looked_85 rfl (Nat.le_of_ble_eq_true rfl) rfl rfl ?_
        change Sem g d YX31_looked 86 [(1, x0), (1, x1), (1, r2.1)] [] r2.2 o
        refine S_aload_n (i := 2) dX31_looked_86 rfl rfl ?_
        refine S_aload_n (i := 0) dX31_looked_87 rfl rfl ?_
        refine P_gfr FLX31_11 rfl dX31_looked_88 h (fun v6 h => ?_)
        refine S_aload_n (i := 0) dX31_looked_91 rfl rfl ?_
        refine P_gfr FLX31_27 rfl dX31_looked_92 h (fun v7 h => ?_)
        refine S_iconst dX31_looked_95 rfl ?_
        refine P_lai dX31_looked_96 h (fun v8 h => ?_)
        refine P_lar (t := 13) ⟨by decide, by decide⟩ dX31_looked_97 h (fun v9 h => ?_)
        refine P_invVm' [(1, v9)] [] CVX4_putKey MLX31_121 dX31_looked_98 rfl rfl rfl rfl (by omega) h (fun r h => F_X4_putKey (by omega) h) (fun M4 h => ?_)
        refine S_aload_n (i := 0) dX31_looked_101 rfl rfl ?_
        refine S_aload_n (i := 1) dX31_looked_102 rfl rfl ?_
        refine S_aload_n (i := 0) dX31_looked_103 rfl rfl ?_
        refine P_gfr FLX31_27 rfl dX31_looked_104 h (fun v10 h => ?_)
        refine S_iconst dX31_looked_107 rfl ?_
        refine P_lai dX31_looked_108 h (fun v11 h => ?_)
        refine P_invVm' [(1, x1), (0, v11)] [] CVX31_consult MLX31_126 dX31_looked_109 rfl rfl rfl rfl (by omega) h (fun r h => FRECX31_consult (by omega) h) (fun M5 h => ?_)
        refine S_weak (ls' := [(9, 0), (9, 0), (9, 0)]) ⟨Or.inl rfl, ⟨Or.inl rfl, ⟨Or.inl rfl, trivial⟩⟩⟩ ?_
        exact s_X31_looked_112 hD r0 h hz
      · refine S_aload_n (i := 0) dX31_looked_63 rfl rfl ?_
        refine S_aload_n (i := 1) dX31_looked_64 rfl rfl ?_
        refine P_invVm' [(1, x1)] [] CVX31_list MLX31_105 dX31_looked_65 rfl rfl rfl rfl (by omega) h (fun r h => FRECX31_list (by omega) h) (fun M6 h => ?_)
        refine S_goto (tgt := 112) dX31_looked_68 rfl ?_
        refine S_weak (ls' := [(9, 0), (9, 0), (9, 0)]) ⟨Or.inl rfl, ⟨Or.inl rfl, ⟨Or.inl rfl, trivial⟩⟩⟩ ?_
        exact s_X31_looked_112 hD r0 h hz
    · refine S_aload_n (i := 1) dX31_looked_36 rfl rfl ?_
      refine S_aload_n (i := 0) dX31_looked_37 rfl rfl ?_
      refine P_gfr FLX31_11 rfl dX31_looked_38 h (fun v12 h => ?_)
      refine S_aload_n (i := 0) dX31_looked_41 rfl rfl ?_
      refine P_gfi FLX31_76 rfl dX31_looked_42 h (fun v13 h => ?_)
      refine P_lar (t := 13) ⟨by decide, by decide⟩ dX31_looked_45 h (fun v14 h => ?_)
      refine S_iconst dX31_looked_46 rfl ?_
      refine P_invVe 0 [(1, v14), (0, 1)] [] CVX11_look MLX31_88 dX31_looked_47 rfl rfl rfl rfl rfl (by omega) h (fun r h => F_X11_look (by omega) h) (fun r3 h => ?_)
      obtain ⟨hb, h⟩ := bz_some h
      obtain rfl := r0 _ (some_P (P := fun r => P r) h hz)
      exact P_ret dX31_looked_50 rfl (Or.inr ⟨rfl, hb⟩)
  · refine S_aload_n (i := 0) dX31_looked_8 rfl rfl ?_
    refine S_aload_n (i := 1) dX31_looked_9 rfl rfl ?_
    refine P_invVm' [(1, x1)] [] CVX31_finish MLX31_98 dX31_looked_10 rfl rfl rfl rfl (by omega) h (fun r h => F_X31_finish (by omega) h) (fun M7 h => ?_)
    refine S_iconst dX31_looked_13 rfl ?_
    obtain rfl := r0 _ (some_P (P := fun r => P r) h hz)
    exact P_ret dX31_looked_14 rfl (Or.inr ⟨rfl, Or.inl rfl⟩)
theorem F_X31_looked {g : GG} {d : Nat} (hD : 211 ≤ d) {x0 x1 : Int} {M : MM} {r : Int × MM} (h : f_X31_looked x0 x1 M = some r) : Sem g d YX31_looked 0 (ini YX31_looked [(1, x0), (1, x1)]) [] M ((0, r.1), r.2) := by
  change Sem g d YX31_looked 0 [(1, x0), (1, x1), (9, 0)] [] M ((0, r.1), r.2)
  exact s_X31_looked_0 hD (P := fun x => x = r) (fun q e => by rw [e]) h rfl
/-! PeerSearch$Joining.looked(LPeerSearch$Work;)Z -/
theorem dX13_looked_0 : decode cX13_looked 0 = .ok (.aload_n 0, 1) := by decide +kernel
theorem dX13_looked_1 : decode cX13_looked 1 = .ok (.getfield 7, 3) := by decide +kernel
theorem dX13_looked_4 : decode cX13_looked 4 = .ok (.ifCond .eq 9, 3) := by decide +kernel
theorem dX13_looked_7 : decode cX13_looked 7 = .ok (.aload_n 0, 1) := by decide +kernel
theorem dX13_looked_8 : decode cX13_looked 8 = .ok (.aload_n 1, 1) := by decide +kernel
theorem dX13_looked_9 : decode cX13_looked 9 = .ok (.invokevirtual 29, 3) := by decide +kernel
theorem dX13_looked_12 : decode cX13_looked 12 = .ok (.ireturn, 1) := by decide +kernel
theorem dX13_looked_13 : decode cX13_looked 13 = .ok (.aload_n 0, 1) := by decide +kernel
theorem dX13_looked_14 : decode cX13_looked 14 = .ok (.dup, 1) := by decide +kernel
theorem dX13_looked_15 : decode cX13_looked 15 = .ok (.getfield 33, 3) := by decide +kernel
theorem dX13_looked_18 : decode cX13_looked 18 = .ok (.iconst 1, 1) := by decide +kernel
theorem dX13_looked_19 : decode cX13_looked 19 = .ok (.iadd, 1) := by decide +kernel
theorem dX13_looked_20 : decode cX13_looked 20 = .ok (.putfield 33, 3) := by decide +kernel
theorem dX13_looked_23 : decode cX13_looked 23 = .ok (.aload_n 0, 1) := by decide +kernel
theorem dX13_looked_24 : decode cX13_looked 24 = .ok (.aload_n 1, 1) := by decide +kernel
theorem dX13_looked_25 : decode cX13_looked 25 = .ok (.invokevirtual 50, 3) := by decide +kernel
theorem dX13_looked_28 : decode cX13_looked 28 = .ok (.ireturn, 1) := by decide +kernel
def f_X13_looked (x0 x1 : Int) (M : MM) : Option (Int × MM) :=
  (gfi 13 0 x0 M).bind fun v1 =>
  if w32 v1 = 0 then
    (gfi 13 1 x0 M).bind fun v2 =>
    (pfi 13 1 x0 (v2 + 1) M).bind fun M1 =>
    ck 13 x0 M1 <| (f_X13_goes x0 x1 M1).bind fun r1 =>
    bz r1.1 (some (r1.1, r1.2))
  else
    ck 13 x0 M <| (f_X13_refresh x0 x1 M).bind fun r2 =>
    bz r2.1 (some (r2.1, r2.2))
theorem s_X13_looked_0 {g : GG} {d : Nat} (hD : 8 ≤ d) {x0 x1 : Int} {M : MM} {o : AV × MM} {P : (Int × MM) → Prop} (r0 : ∀ r : Int × MM, P r → o = ((0, r.1), r.2)) {z : Int × MM} (h : f_X13_looked x0 x1 M = some z) (hz : P z) : Sem g d YX13_looked 0 [(1, x0), (1, x1)] [] M o := by
  delta f_X13_looked at h
  refine S_aload_n (i := 0) dX13_looked_0 rfl rfl ?_
  refine P_gfi FLX13_7 rfl dX13_looked_1 h (fun v1 h => ?_)
  refine P_if_eq (tgt := 13) dX13_looked_4 rfl h (fun h => ?_) (fun h => ?_)
  · refine S_aload_n (i := 0) dX13_looked_13 rfl rfl ?_
    refine S_dup dX13_looked_14 (Nat.le_of_ble_eq_true rfl) ?_
    refine P_gfi FLX13_33 rfl dX13_looked_15 h (fun v2 h => ?_)
    refine S_iconst dX13_looked_18 rfl ?_
    refine S_iadd dX13_looked_19 ?_
    refine P_pfi FLX13_33 FPX13_33 rfl dX13_looked_20 h (fun M1 h => ?_)
    refine S_aload_n (i := 0) dX13_looked_23 rfl rfl ?_
    refine S_aload_n (i := 1) dX13_looked_24 rfl rfl ?_
    refine P_invVe 0 [(1, x1)] [] CVX13_goes MLX13_50 dX13_looked_25 rfl rfl rfl rfl rfl (by omega) h (fun r h => F_X13_goes (by omega) h) (fun r1 h => ?_)
    obtain ⟨hb, h⟩ := bz_some h
    obtain rfl := r0 _ (some_P (P := fun r => P r) h hz)
    exact P_ret dX13_looked_28 rfl (Or.inr ⟨rfl, hb⟩)
  · refine S_aload_n (i := 0) dX13_looked_7 rfl rfl ?_
    refine S_aload_n (i := 1) dX13_looked_8 rfl rfl ?_
    refine P_invVe 0 [(1, x1)] [] CVX13_refresh MLX13_29 dX13_looked_9 rfl rfl rfl rfl rfl (by omega) h (fun r h => F_X13_refresh (by omega) h) (fun r2 h => ?_)
    obtain ⟨hb, h⟩ := bz_some h
    obtain rfl := r0 _ (some_P (P := fun r => P r) h hz)
    exact P_ret dX13_looked_12 rfl (Or.inr ⟨rfl, hb⟩)
theorem F_X13_looked {g : GG} {d : Nat} (hD : 8 ≤ d) {x0 x1 : Int} {M : MM} {r : Int × MM} (h : f_X13_looked x0 x1 M = some r) : Sem g d YX13_looked 0 (ini YX13_looked [(1, x0), (1, x1)]) [] M ((0, r.1), r.2) := by
  change Sem g d YX13_looked 0 [(1, x0), (1, x1)] [] M ((0, r.1), r.2)
  exact s_X13_looked_0 hD (P := fun x => x = r) (fun q e => by rw [e]) h rfl
/-! PeerSearch$Looking.looked(LPeerSearch$Work;)Z -/
theorem dX14_looked_0 : decode cX14_looked 0 = .ok (.aload_n 1, 1) := by decide +kernel
theorem dX14_looked_1 : decode cX14_looked 1 = .ok (.getfield 17, 3) := by decide +kernel
theorem dX14_looked_4 : decode cX14_looked 4 = .ok (.astore_n 2, 1) := by decide +kernel
theorem dX14_looked_5 : decode cX14_looked 5 = .ok (.iconst 0, 1) := by decide +kernel
theorem dX14_looked_6 : decode cX14_looked 6 = .ok (.istore_n 3, 1) := by decide +kernel
theorem dX14_looked_7 : decode cX14_looked 7 = .ok (.aload_n 2, 1) := by decide +kernel
theorem dX14_looked_8 : decode cX14_looked 8 = .ok (.iload_n 3, 1) := by decide +kernel
theorem dX14_looked_9 : decode cX14_looked 9 = .ok (.invokevirtual 21, 3) := by decide +kernel
theorem dX14_looked_12 : decode cX14_looked 12 = .ok (.ifnull 9, 3) := by decide +kernel
theorem dX14_looked_15 : decode cX14_looked 15 = .ok (.iinc 3 1, 3) := by decide +kernel
theorem dX14_looked_18 : decode cX14_looked 18 = .ok (.goto (-11), 3) := by decide +kernel
theorem dX14_looked_21 : decode cX14_looked 21 = .ok (.aload_n 1, 1) := by decide +kernel
theorem dX14_looked_22 : decode cX14_looked 22 = .ok (.getfield 27, 3) := by decide +kernel
theorem dX14_looked_25 : decode cX14_looked 25 = .ok (.iload_n 3, 1) := by decide +kernel
theorem dX14_looked_26 : decode cX14_looked 26 = .ok (.bipush 6, 2) := by decide +kernel
theorem dX14_looked_28 : decode cX14_looked 28 = .ok (.invokevirtual 33, 3) := by decide +kernel
theorem dX14_looked_31 : decode cX14_looked 31 = .ok (.iconst 0, 1) := by decide +kernel
theorem dX14_looked_32 : decode cX14_looked 32 = .ok (.istore 4, 2) := by decide +kernel
theorem dX14_looked_34 : decode cX14_looked 34 = .ok (.iload 4, 2) := by decide +kernel
theorem dX14_looked_36 : decode cX14_looked 36 = .ok (.iload_n 3, 1) := by decide +kernel
theorem dX14_looked_37 : decode cX14_looked 37 = .ok (.if_icmp .ge 79, 3) := by decide +kernel
theorem dX14_looked_40 : decode cX14_looked 40 = .ok (.aload_n 2, 1) := by decide +kernel
theorem dX14_looked_41 : decode cX14_looked 41 = .ok (.iload 4, 2) := by decide +kernel
theorem dX14_looked_43 : decode cX14_looked 43 = .ok (.invokevirtual 21, 3) := by decide +kernel
theorem dX14_looked_46 : decode cX14_looked 46 = .ok (.astore 5, 2) := by decide +kernel
theorem dX14_looked_48 : decode cX14_looked 48 = .ok (.aload_n 1, 1) := by decide +kernel
theorem dX14_looked_49 : decode cX14_looked 49 = .ok (.getfield 27, 3) := by decide +kernel
theorem dX14_looked_52 : decode cX14_looked 52 = .ok (.getfield 39, 3) := by decide +kernel
theorem dX14_looked_55 : decode cX14_looked 55 = .ok (.bipush 6, 2) := by decide +kernel
theorem dX14_looked_57 : decode cX14_looked 57 = .ok (.iload 4, 2) := by decide +kernel
theorem dX14_looked_59 : decode cX14_looked 59 = .ok (.imul, 1) := by decide +kernel
theorem dX14_looked_60 : decode cX14_looked 60 = .ok (.aload 5, 2) := by decide +kernel
theorem dX14_looked_62 : decode cX14_looked 62 = .ok (.getfield 43, 3) := by decide +kernel
theorem dX14_looked_65 : decode cX14_looked 65 = .ok (.iastore, 1) := by decide +kernel
theorem dX14_looked_66 : decode cX14_looked 66 = .ok (.iconst 0, 1) := by decide +kernel
theorem dX14_looked_67 : decode cX14_looked 67 = .ok (.istore 6, 2) := by decide +kernel
theorem dX14_looked_69 : decode cX14_looked 69 = .ok (.iload 6, 2) := by decide +kernel
theorem dX14_looked_71 : decode cX14_looked 71 = .ok (.iconst 5, 1) := by decide +kernel
theorem dX14_looked_72 : decode cX14_looked 72 = .ok (.if_icmp .ge 38, 3) := by decide +kernel
theorem dX14_looked_75 : decode cX14_looked 75 = .ok (.aload_n 1, 1) := by decide +kernel
theorem dX14_looked_76 : decode cX14_looked 76 = .ok (.getfield 27, 3) := by decide +kernel
theorem dX14_looked_79 : decode cX14_looked 79 = .ok (.getfield 39, 3) := by decide +kernel
theorem dX14_looked_82 : decode cX14_looked 82 = .ok (.bipush 6, 2) := by decide +kernel
theorem dX14_looked_84 : decode cX14_looked 84 = .ok (.iload 4, 2) := by decide +kernel
theorem dX14_looked_86 : decode cX14_looked 86 = .ok (.imul, 1) := by decide +kernel
theorem dX14_looked_87 : decode cX14_looked 87 = .ok (.iconst 1, 1) := by decide +kernel
theorem dX14_looked_88 : decode cX14_looked 88 = .ok (.iadd, 1) := by decide +kernel
theorem dX14_looked_89 : decode cX14_looked 89 = .ok (.iload 6, 2) := by decide +kernel
theorem dX14_looked_91 : decode cX14_looked 91 = .ok (.iadd, 1) := by decide +kernel
theorem dX14_looked_92 : decode cX14_looked 92 = .ok (.aload 5, 2) := by decide +kernel
theorem dX14_looked_94 : decode cX14_looked 94 = .ok (.getfield 49, 3) := by decide +kernel
theorem dX14_looked_97 : decode cX14_looked 97 = .ok (.getfield 52, 3) := by decide +kernel
theorem dX14_looked_100 : decode cX14_looked 100 = .ok (.iload 6, 2) := by decide +kernel
theorem dX14_looked_102 : decode cX14_looked 102 = .ok (.iaload, 1) := by decide +kernel
theorem dX14_looked_103 : decode cX14_looked 103 = .ok (.iastore, 1) := by decide +kernel
theorem dX14_looked_104 : decode cX14_looked 104 = .ok (.iinc 6 1, 3) := by decide +kernel
theorem dX14_looked_107 : decode cX14_looked 107 = .ok (.goto (-38), 3) := by decide +kernel
theorem dX14_looked_110 : decode cX14_looked 110 = .ok (.iinc 4 1, 3) := by decide +kernel
theorem dX14_looked_113 : decode cX14_looked 113 = .ok (.goto (-79), 3) := by decide +kernel
theorem dX14_looked_116 : decode cX14_looked 116 = .ok (.aload_n 1, 1) := by decide +kernel
theorem dX14_looked_117 : decode cX14_looked 117 = .ok (.iconst 1, 1) := by decide +kernel
theorem dX14_looked_118 : decode cX14_looked 118 = .ok (.invokevirtual 55, 3) := by decide +kernel
theorem dX14_looked_121 : decode cX14_looked 121 = .ok (.iconst 0, 1) := by decide +kernel
theorem dX14_looked_122 : decode cX14_looked 122 = .ok (.ireturn, 1) := by decide +kernel
def j_X14_looked_116 (x1 : Int) (M : MM) : Option (Int × MM) :=
  ck 11 x1 M <| (f_X11_end x1 1 M).bind fun M1 =>
  some (0, M1)
def j_X14_looked_110 (x1 x2 x3 x4 : Int) (M : MM) : Option ((Int × MM) ⊕ (Int × MM)) :=
  cnt (x4 + 1, M)
def b_X14_looked_69 (x1 x2 x3 x4 x5 x6 : Int) (M : MM) : Option ((Int × MM) ⊕ ((Int × MM) ⊕ (Int × MM))) :=
  if w32 x6 < w32 5 then
    (gfr 11 4 x1 M).bind fun v1 =>
    (gfr 26 6 v1 M).bind fun v2 =>
    (gfr 27 0 x5 M).bind fun v3 =>
    (gfr 3 0 v3 M).bind fun v4 =>
    (lai v4 x6 M).bind fun v5 =>
    (sai v2 (((6 * x4) + 1) + x6) v5 M).bind fun M1 =>
    cnt (x6 + 1, M1)
  else
    xit (j_X14_looked_110 x1 x2 x3 x4 M)
def l_X14_looked_69 (x1 x2 x3 x4 x5 x6 : Int) (M : MM) : Option ((Int × MM) ⊕ (Int × MM)) := lpN (fun s : Int × MM => b_X14_looked_69 x1 x2 x3 x4 x5 s.1 s.2) FU (x6, M)
def b_X14_looked_34 (x1 x2 x3 x4 : Int) (M : MM) : Option ((Int × MM) ⊕ (Int × MM)) :=
  if w32 x4 < w32 x3 then
    ck 15 x2 M <| (f_X15_front x2 x4 M).bind fun v1 =>
    (gfr 11 4 x1 M).bind fun v2 =>
    (gfr 26 6 v2 M).bind fun v3 =>
    (gfi 27 1 v1 M).bind fun v4 =>
    (sai v3 (6 * x4) v4 M).bind fun M1 =>
    l_X14_looked_69 x1 x2 x3 x4 v1 0 M1
  else
    xit (j_X14_looked_116 x1 M)
def l_X14_looked_34 (x1 x2 x3 x4 : Int) (M : MM) : Option (Int × MM) := lpN (fun s : Int × MM => b_X14_looked_34 x1 x2 x3 s.1 s.2) FU (x4, M)
def j_X14_looked_21 (x1 x2 x3 : Int) (M : MM) : Option (Int × MM) :=
  (gfr 11 4 x1 M).bind fun v1 =>
  ck 26 v1 M <| (f_X26_tell v1 x3 6 M).bind fun M1 =>
  l_X14_looked_34 x1 x2 x3 0 M1
def b_X14_looked_7 (x1 x2 x3 : Int) (M : MM) : Option ((Int) ⊕ (Int × MM)) :=
  ck 15 x2 M <| (f_X15_front x2 x3 M).bind fun v1 =>
  if v1 = -1 then
    xit (j_X14_looked_21 x1 x2 x3 M)
  else
    cnt (x3 + 1)
def l_X14_looked_7 (x1 x2 x3 : Int) (M : MM) : Option (Int × MM) := lpN (fun s : Int => b_X14_looked_7 x1 x2 s M) FU x3
def f_X14_looked (x0 x1 : Int) (M : MM) : Option (Int × MM) :=
  (gfr 11 1 x1 M).bind fun v1 =>
  l_X14_looked_7 x1 v1 0 M
theorem s_X14_looked_116 {g : GG} {d : Nat} (hD : 1 ≤ d) {x1 : Int} {M : MM} {o : AV × MM} {P : (Int × MM) → Prop} (r0 : ∀ r : Int × MM, P r → o = ((0, r.1), r.2)) {z : Int × MM} (h : j_X14_looked_116 x1 M = some z) (hz : P z) : Sem g d YX14_looked 116 [(9, 0), (1, x1), (9, 0), (9, 0), (9, 0), (9, 0), (9, 0)] [] M o := by
  delta j_X14_looked_116 at h
  refine S_aload_n (i := 1) dX14_looked_116 rfl rfl ?_
  refine S_iconst dX14_looked_117 rfl ?_
  refine P_invVm' [(0, 1)] [] CVX11_end MLX14_55 dX14_looked_118 rfl rfl rfl rfl (by omega) h (fun r h => F_X11_end (by omega) h) (fun M1 h => ?_)
  refine S_iconst dX14_looked_121 rfl ?_
  obtain rfl := r0 _ (some_P (P := fun r => P r) h hz)
  exact P_ret dX14_looked_122 rfl (Or.inr ⟨rfl, Or.inl rfl⟩)
theorem s_X14_looked_110 {g : GG} {d : Nat} (hD : 1 ≤ d) {x1 x2 x3 x4 : Int} {M : MM} {o : AV × MM} {P : ((Int × MM) ⊕ (Int × MM)) → Prop} (c0 : ∀ s : Int × MM, P (.inl s) → Sem g d YX14_looked 34 [(9, 0), (1, x1), (1, x2), (0, x3), (0, s.1), (9, 0), (9, 0)] [] s.2 o) (r0 : ∀ r : Int × MM, P (.inr r) → o = ((0, r.1), r.2)) {z : (Int × MM) ⊕ (Int × MM)} (h : j_X14_looked_110 x1 x2 x3 x4 M = some z) (hz : P z) : Sem g d YX14_looked 110 [(9, 0), (1, x1), (1, x2), (0, x3), (0, x4), (9, 0), (9, 0)] [] M o := by
  delta j_X14_looked_110 at h
  refine S_iinc dX14_looked_110 rfl rfl rfl ?_
  change Sem g d YX14_looked 113 [(9, 0), (1, x1), (1, x2), (0, x3), (0, x4 + 1), (9, 0), (9, 0)] [] M o
  refine S_goto (tgt := 34) dX14_looked_113 rfl ?_
  exact c0 (x4 + 1, M) (some_P (P := fun r => P r) h hz)
theorem s_X14_looked_69 {g : GG} {d : Nat} (hD : 1 ≤ d) {x1 x2 x3 x4 x5 x6 : Int} {M : MM} {o : AV × MM} {P : ((Int × MM) ⊕ ((Int × MM) ⊕ (Int × MM))) → Prop} (c1 : ∀ s : Int × MM, P (.inl s) → Sem g d YX14_looked 69 [(9, 0), (1, x1), (1, x2), (0, x3), (0, x4), (1, x5), (0, s.1)] [] s.2 o) (c0 : ∀ s : Int × MM, P (.inr (.inl s)) → Sem g d YX14_looked 34 [(9, 0), (1, x1), (1, x2), (0, x3), (0, s.1), (9, 0), (9, 0)] [] s.2 o) (r0 : ∀ r : Int × MM, P (.inr (.inr r)) → o = ((0, r.1), r.2)) {z : (Int × MM) ⊕ ((Int × MM) ⊕ (Int × MM))} (h : b_X14_looked_69 x1 x2 x3 x4 x5 x6 M = some z) (hz : P z) : Sem g d YX14_looked 69 [(9, 0), (1, x1), (1, x2), (0, x3), (0, x4), (1, x5), (0, x6)] [] M o := by
  delta b_X14_looked_69 at h
  refine S_iload dX14_looked_69 rfl ?_
  refine S_iconst dX14_looked_71 rfl ?_
  refine P_icmp_ge (tgt := 110) dX14_looked_72 rfl h (fun h => ?_) (fun h => ?_)
  · refine S_weak (ls' := [(9, 0), (1, x1), (1, x2), (0, x3), (0, x4), (9, 0), (9, 0)]) ⟨Or.inl rfl, ⟨Or.inr rfl, ⟨Or.inr rfl, ⟨Or.inr rfl, ⟨Or.inr rfl, ⟨Or.inl rfl, ⟨Or.inl rfl, trivial⟩⟩⟩⟩⟩⟩⟩ ?_
    obtain ⟨z0, h, hz⟩ := xit_some' (P := fun r => P r) h hz
    exact s_X14_looked_110 hD (P := fun r => P (.inr r)) c0 r0 h hz
  · refine S_aload_n (i := 1) dX14_looked_75 rfl rfl ?_
    refine P_gfr FLX14_27 rfl dX14_looked_76 h (fun v1 h => ?_)
    refine P_gfr FLX14_39 rfl dX14_looked_79 h (fun v2 h => ?_)
    refine S_bipush (z := 6) dX14_looked_82 rfl ?_
    refine S_iload dX14_looked_84 rfl ?_
    refine S_imul dX14_looked_86 ?_
    refine S_iconst dX14_looked_87 rfl ?_
    refine S_iadd dX14_looked_88 ?_
    refine S_iload dX14_looked_89 rfl ?_
    refine S_iadd dX14_looked_91 ?_
    refine S_aload dX14_looked_92 rfl ?_
    refine P_gfr FLX14_49 rfl dX14_looked_94 h (fun v3 h => ?_)
    refine P_gfr FLX14_52 rfl dX14_looked_97 h (fun v4 h => ?_)
    refine S_iload dX14_looked_100 rfl ?_
    refine P_lai dX14_looked_102 h (fun v5 h => ?_)
    refine P_sai dX14_looked_103 h (fun M1 h => ?_)
    refine S_iinc dX14_looked_104 rfl rfl rfl ?_
    change Sem g d YX14_looked 107 [(9, 0), (1, x1), (1, x2), (0, x3), (0, x4), (1, x5), (0, x6 + 1)] [] M1 o
    refine S_goto (tgt := 69) dX14_looked_107 rfl ?_
    exact c1 (x6 + 1, M1) (some_P (P := fun r => P r) h hz)
theorem sl_X14_looked_69 {g : GG} {d : Nat} (hD : 1 ≤ d) {x1 x2 x3 x4 x5 x6 : Int} {M : MM} {o : AV × MM} {P : ((Int × MM) ⊕ (Int × MM)) → Prop} (c0 : ∀ s : Int × MM, P (.inl s) → Sem g d YX14_looked 34 [(9, 0), (1, x1), (1, x2), (0, x3), (0, s.1), (9, 0), (9, 0)] [] s.2 o) (r0 : ∀ r : Int × MM, P (.inr r) → o = ((0, r.1), r.2)) {z : (Int × MM) ⊕ (Int × MM)} (h : l_X14_looked_69 x1 x2 x3 x4 x5 x6 M = some z) (hz : P z) : Sem g d YX14_looked 69 [(9, 0), (1, x1), (1, x2), (0, x3), (0, x4), (1, x5), (0, x6)] [] M o := by
  refine lp_sound (S := fun s : Int × MM => Sem g d YX14_looked 69 [(9, 0), (1, x1), (1, x2), (0, x3), (0, x4), (1, x5), (0, s.1)] [] s.2 o) (P := P) ?_ FU (x6, M) z h hz
  intro s x hx hP
  exact s_X14_looked_69 hD (P := Sum.elim (fun s : Int × MM => Sem g d YX14_looked 69 [(9, 0), (1, x1), (1, x2), (0, x3), (0, x4), (1, x5), (0, s.1)] [] s.2 o) P) (fun s h => h) (fun s h => c0 s h) (fun s h => r0 s h) hx hP
theorem s_X14_looked_34 {g : GG} {d : Nat} (hD : 1 ≤ d) {x1 x2 x3 x4 : Int} {M : MM} {o : AV × MM} {P : ((Int × MM) ⊕ (Int × MM)) → Prop} (c0 : ∀ s : Int × MM, P (.inl s) → Sem g d YX14_looked 34 [(9, 0), (1, x1), (1, x2), (0, x3), (0, s.1), (9, 0), (9, 0)] [] s.2 o) (r0 : ∀ r : Int × MM, P (.inr r) → o = ((0, r.1), r.2)) {z : (Int × MM) ⊕ (Int × MM)} (h : b_X14_looked_34 x1 x2 x3 x4 M = some z) (hz : P z) : Sem g d YX14_looked 34 [(9, 0), (1, x1), (1, x2), (0, x3), (0, x4), (9, 0), (9, 0)] [] M o := by
  delta b_X14_looked_34 at h
  refine S_iload dX14_looked_34 rfl ?_
  refine S_iload_n (i := 3) dX14_looked_36 rfl rfl ?_
  refine P_icmp_ge (tgt := 116) dX14_looked_37 rfl h (fun h => ?_) (fun h => ?_)
  · refine S_weak (ls' := [(9, 0), (1, x1), (9, 0), (9, 0), (9, 0), (9, 0), (9, 0)]) ⟨Or.inl rfl, ⟨Or.inr rfl, ⟨Or.inl rfl, ⟨Or.inl rfl, ⟨Or.inl rfl, ⟨Or.inl rfl, ⟨Or.inl rfl, trivial⟩⟩⟩⟩⟩⟩⟩ ?_
    obtain ⟨z0, h, hz⟩ := xit_some' (P := fun r => P r) h hz
    exact s_X14_looked_116 hD (P := fun r => P (.inr r)) r0 h hz
  · refine S_aload_n (i := 2) dX14_looked_40 rfl rfl ?_
    refine S_iload dX14_looked_41 rfl ?_
    refine P_invVp 1 [(0, x4)] [] CVX15_front MLX14_21 dX14_looked_43 rfl rfl rfl rfl rfl (by omega) h (fun r h => F_X15_front (by omega) h) (fun v1 h => ?_)
    refine S_astore dX14_looked_46 (Nat.le_of_ble_eq_true rfl) rfl rfl ?_
    change Sem g d YX14_looked 48 [(9, 0), (1, x1), (1, x2), (0, x3), (0, x4), (1, v1), (9, 0)] [] M o
    refine S_aload_n (i := 1) dX14_looked_48 rfl rfl ?_
    refine P_gfr FLX14_27 rfl dX14_looked_49 h (fun v2 h => ?_)
    refine P_gfr FLX14_39 rfl dX14_looked_52 h (fun v3 h => ?_)
    refine S_bipush (z := 6) dX14_looked_55 rfl ?_
    refine S_iload dX14_looked_57 rfl ?_
    refine S_imul dX14_looked_59 ?_
    refine S_aload dX14_looked_60 rfl ?_
    refine P_gfi FLX14_43 rfl dX14_looked_62 h (fun v4 h => ?_)
    refine P_sai dX14_looked_65 h (fun M1 h => ?_)
    refine S_iconst dX14_looked_66 rfl ?_
    refine S_istore dX14_looked_67 (Nat.le_of_ble_eq_true rfl) rfl rfl ?_
    change Sem g d YX14_looked 69 [(9, 0), (1, x1), (1, x2), (0, x3), (0, x4), (1, v1), (0, 0)] [] M1 o
    exact sl_X14_looked_69 hD c0 r0 h hz
theorem sl_X14_looked_34 {g : GG} {d : Nat} (hD : 1 ≤ d) {x1 x2 x3 x4 : Int} {M : MM} {o : AV × MM} {P : (Int × MM) → Prop} (r0 : ∀ r : Int × MM, P r → o = ((0, r.1), r.2)) {z : Int × MM} (h : l_X14_looked_34 x1 x2 x3 x4 M = some z) (hz : P z) : Sem g d YX14_looked 34 [(9, 0), (1, x1), (1, x2), (0, x3), (0, x4), (9, 0), (9, 0)] [] M o := by
  refine lp_sound (S := fun s : Int × MM => Sem g d YX14_looked 34 [(9, 0), (1, x1), (1, x2), (0, x3), (0, s.1), (9, 0), (9, 0)] [] s.2 o) (P := P) ?_ FU (x4, M) z h hz
  intro s x hx hP
  exact s_X14_looked_34 hD (P := Sum.elim (fun s : Int × MM => Sem g d YX14_looked 34 [(9, 0), (1, x1), (1, x2), (0, x3), (0, s.1), (9, 0), (9, 0)] [] s.2 o) P) (fun s h => h) (fun s h => r0 s h) hx hP
theorem s_X14_looked_21 {g : GG} {d : Nat} (hD : 1 ≤ d) {x1 x2 x3 : Int} {M : MM} {o : AV × MM} {P : (Int × MM) → Prop} (r0 : ∀ r : Int × MM, P r → o = ((0, r.1), r.2)) {z : Int × MM} (h : j_X14_looked_21 x1 x2 x3 M = some z) (hz : P z) : Sem g d YX14_looked 21 [(9, 0), (1, x1), (1, x2), (0, x3), (9, 0), (9, 0), (9, 0)] [] M o := by
  delta j_X14_looked_21 at h
  refine S_aload_n (i := 1) dX14_looked_21 rfl rfl ?_
  refine P_gfr FLX14_27 rfl dX14_looked_22 h (fun v1 h => ?_)
  refine S_iload_n (i := 3) dX14_looked_25 rfl rfl ?_
  refine S_bipush (z := 6) dX14_looked_26 rfl ?_
  refine P_invVm' [(0, x3), (0, 6)] [] CVX26_tell MLX14_33 dX14_looked_28 rfl rfl rfl rfl (by omega) h (fun r h => F_X26_tell (by omega) h) (fun M1 h => ?_)
  refine S_iconst dX14_looked_31 rfl ?_
  refine S_istore dX14_looked_32 (Nat.le_of_ble_eq_true rfl) rfl rfl ?_
  change Sem g d YX14_looked 34 [(9, 0), (1, x1), (1, x2), (0, x3), (0, 0), (9, 0), (9, 0)] [] M1 o
  exact sl_X14_looked_34 hD r0 h hz
theorem s_X14_looked_7 {g : GG} {d : Nat} (hD : 1 ≤ d) {x1 x2 x3 : Int} {M : MM} {o : AV × MM} {P : ((Int) ⊕ (Int × MM)) → Prop} (c0 : ∀ s : Int, P (.inl s) → Sem g d YX14_looked 7 [(9, 0), (1, x1), (1, x2), (0, s), (9, 0), (9, 0), (9, 0)] [] M o) (r0 : ∀ r : Int × MM, P (.inr r) → o = ((0, r.1), r.2)) {z : (Int) ⊕ (Int × MM)} (h : b_X14_looked_7 x1 x2 x3 M = some z) (hz : P z) : Sem g d YX14_looked 7 [(9, 0), (1, x1), (1, x2), (0, x3), (9, 0), (9, 0), (9, 0)] [] M o := by
  delta b_X14_looked_7 at h
  refine S_aload_n (i := 2) dX14_looked_7 rfl rfl ?_
  refine S_iload_n (i := 3) dX14_looked_8 rfl rfl ?_
  refine P_invVp 1 [(0, x3)] [] CVX15_front MLX14_21 dX14_looked_9 rfl rfl rfl rfl rfl (by omega) h (fun r h => F_X15_front (by omega) h) (fun v1 h => ?_)
  refine P_ifnull (tgt := 21) dX14_looked_12 rfl h (fun h => ?_) (fun h => ?_)
  · obtain ⟨z0, h, hz⟩ := xit_some' (P := fun r => P r) h hz
    exact s_X14_looked_21 hD (P := fun r => P (.inr r)) r0 h hz
  · refine S_iinc dX14_looked_15 rfl rfl rfl ?_
    change Sem g d YX14_looked 18 [(9, 0), (1, x1), (1, x2), (0, x3 + 1), (9, 0), (9, 0), (9, 0)] [] M o
    refine S_goto (tgt := 7) dX14_looked_18 rfl ?_
    exact c0 (x3 + 1) (some_P (P := fun r => P r) h hz)
theorem sl_X14_looked_7 {g : GG} {d : Nat} (hD : 1 ≤ d) {x1 x2 x3 : Int} {M : MM} {o : AV × MM} {P : (Int × MM) → Prop} (r0 : ∀ r : Int × MM, P r → o = ((0, r.1), r.2)) {z : Int × MM} (h : l_X14_looked_7 x1 x2 x3 M = some z) (hz : P z) : Sem g d YX14_looked 7 [(9, 0), (1, x1), (1, x2), (0, x3), (9, 0), (9, 0), (9, 0)] [] M o := by
  refine lp_sound (S := fun s : Int => Sem g d YX14_looked 7 [(9, 0), (1, x1), (1, x2), (0, s), (9, 0), (9, 0), (9, 0)] [] M o) (P := P) ?_ FU x3 z h hz
  intro s x hx hP
  exact s_X14_looked_7 hD (P := Sum.elim (fun s : Int => Sem g d YX14_looked 7 [(9, 0), (1, x1), (1, x2), (0, s), (9, 0), (9, 0), (9, 0)] [] M o) P) (fun s h => h) (fun s h => r0 s h) hx hP
theorem s_X14_looked_0 {g : GG} {d : Nat} (hD : 1 ≤ d) {x0 x1 : Int} {M : MM} {o : AV × MM} {P : (Int × MM) → Prop} (r0 : ∀ r : Int × MM, P r → o = ((0, r.1), r.2)) {z : Int × MM} (h : f_X14_looked x0 x1 M = some z) (hz : P z) : Sem g d YX14_looked 0 [(1, x0), (1, x1), (9, 0), (9, 0), (9, 0), (9, 0), (9, 0)] [] M o := by
  delta f_X14_looked at h
  refine S_aload_n (i := 1) dX14_looked_0 rfl rfl ?_
  refine P_gfr FLX14_17 rfl dX14_looked_1 h (fun v1 h => ?_)
  refine S_astore_n (i := 2) dX14_looked_4 rfl (Nat.le_of_ble_eq_true rfl) rfl rfl ?_
  change Sem g d YX14_looked 5 [(1, x0), (1, x1), (1, v1), (9, 0), (9, 0), (9, 0), (9, 0)] [] M o
  refine S_iconst dX14_looked_5 rfl ?_
  refine S_istore_n (i := 3) dX14_looked_6 rfl (Nat.le_of_ble_eq_true rfl) rfl rfl ?_
  change Sem g d YX14_looked 7 [(1, x0), (1, x1), (1, v1), (0, 0), (9, 0), (9, 0), (9, 0)] [] M o
  refine S_weak (ls' := [(9, 0), (1, x1), (1, v1), (0, 0), (9, 0), (9, 0), (9, 0)]) ⟨Or.inl rfl, ⟨Or.inr rfl, ⟨Or.inr rfl, ⟨Or.inr rfl, ⟨Or.inl rfl, ⟨Or.inl rfl, ⟨Or.inl rfl, trivial⟩⟩⟩⟩⟩⟩⟩ ?_
  exact sl_X14_looked_7 hD r0 h hz
theorem F_X14_looked {g : GG} {d : Nat} (hD : 1 ≤ d) {x0 x1 : Int} {M : MM} {r : Int × MM} (h : f_X14_looked x0 x1 M = some r) : Sem g d YX14_looked 0 (ini YX14_looked [(1, x0), (1, x1)]) [] M ((0, r.1), r.2) := by
  change Sem g d YX14_looked 0 [(1, x0), (1, x1), (9, 0), (9, 0), (9, 0), (9, 0), (9, 0)] [] M ((0, r.1), r.2)
  exact s_X14_looked_0 hD (P := fun x => x = r) (fun q e => by rw [e]) h rfl
/-! PeerSearch$Lookup.first(IZ)LPeerSearch$Entry; -/
theorem dX15_first_0 : decode cX15_first 0 = .ok (.iconst 0, 1) := by decide +kernel
theorem dX15_first_1 : decode cX15_first 1 = .ok (.istore_n 3, 1) := by decide +kernel
theorem dX15_first_2 : decode cX15_first 2 = .ok (.aload_n 0, 1) := by decide +kernel
theorem dX15_first_3 : decode cX15_first 3 = .ok (.iconst 0, 1) := by decide +kernel
theorem dX15_first_4 : decode cX15_first 4 = .ok (.invokevirtual 77, 3) := by decide +kernel
theorem dX15_first_7 : decode cX15_first 7 = .ok (.astore 4, 2) := by decide +kernel
theorem dX15_first_9 : decode cX15_first 9 = .ok (.aload 4, 2) := by decide +kernel
theorem dX15_first_11 : decode cX15_first 11 = .ok (.ifnull 34, 3) := by decide +kernel
theorem dX15_first_14 : decode cX15_first 14 = .ok (.aload 4, 2) := by decide +kernel
theorem dX15_first_16 : decode cX15_first 16 = .ok (.getfield 57, 3) := by decide +kernel
theorem dX15_first_19 : decode cX15_first 19 = .ok (.iload_n 1, 1) := by decide +kernel
theorem dX15_first_20 : decode cX15_first 20 = .ok (.if_icmp .ne 7, 3) := by decide +kernel
theorem dX15_first_23 : decode cX15_first 23 = .ok (.iconst 1, 1) := by decide +kernel
theorem dX15_first_24 : decode cX15_first 24 = .ok (.goto 4, 3) := by decide +kernel
theorem dX15_first_27 : decode cX15_first 27 = .ok (.iconst 0, 1) := by decide +kernel
theorem dX15_first_28 : decode cX15_first 28 = .ok (.iload_n 2, 1) := by decide +kernel
theorem dX15_first_29 : decode cX15_first 29 = .ok (.if_icmp .eq 16, 3) := by decide +kernel
theorem dX15_first_32 : decode cX15_first 32 = .ok (.iinc 3 1, 3) := by decide +kernel
theorem dX15_first_35 : decode cX15_first 35 = .ok (.aload_n 0, 1) := by decide +kernel
theorem dX15_first_36 : decode cX15_first 36 = .ok (.iload_n 3, 1) := by decide +kernel
theorem dX15_first_37 : decode cX15_first 37 = .ok (.invokevirtual 77, 3) := by decide +kernel
theorem dX15_first_40 : decode cX15_first 40 = .ok (.astore 4, 2) := by decide +kernel
theorem dX15_first_42 : decode cX15_first 42 = .ok (.goto (-33), 3) := by decide +kernel
theorem dX15_first_45 : decode cX15_first 45 = .ok (.aload 4, 2) := by decide +kernel
theorem dX15_first_47 : decode cX15_first 47 = .ok (.areturn, 1) := by decide +kernel
def j_X15_first_45 (x4 : Int) (M : MM) : Option (Int) :=
  some x4
def j_X15_first_28 (x0 x1 x2 x3 x4 y0 : Int) (M : MM) : Option ((Int × Int) ⊕ (Int)) :=
  if w32 y0 = w32 x2 then
    xit (j_X15_first_45 x4 M)
  else
    ck 15 x0 M <| (f_X15_front x0 (x3 + 1) M).bind fun v1 =>
    cnt (x3 + 1, v1)
def b_X15_first_9 (x0 x1 x2 x3 x4 : Int) (M : MM) : Option ((Int × Int) ⊕ (Int)) :=
  if x4 = -1 then
    xit (j_X15_first_45 x4 M)
  else
    (gfi 27 2 x4 M).bind fun v1 =>
    if w32 v1 = w32 x1 then
      j_X15_first_28 x0 x1 x2 x3 x4 1 M
    else
      j_X15_first_28 x0 x1 x2 x3 x4 0 M
def l_X15_first_9 (x0 x1 x2 x3 x4 : Int) (M : MM) : Option (Int) := lpN (fun s : Int × Int => b_X15_first_9 x0 x1 x2 s.1 s.2 M) FU (x3, x4)
def f_X15_first (x0 x1 x2 : Int) (M : MM) : Option (Int) :=
  ck 15 x0 M <| (f_X15_front x0 0 M).bind fun v1 =>
  l_X15_first_9 x0 x1 x2 0 v1 M
theorem s_X15_first_45 {g : GG} {d : Nat} (hD : 1 ≤ d) {x4 : Int} {M : MM} {o : AV × MM} {P : (Int) → Prop} (r0 : ∀ r : Int, P r → o = ((1, r), M)) {z : Int} (h : j_X15_first_45 x4 M = some z) (hz : P z) : Sem g d YX15_first 45 [(9, 0), (9, 0), (9, 0), (9, 0), (1, x4)] [] M o := by
  delta j_X15_first_45 at h
  refine S_aload dX15_first_45 rfl ?_
  obtain rfl := r0 _ (some_P (P := fun r => P r) h hz)
  exact S_areturn dX15_first_47 ⟨_, rfl, Or.inl ⟨_, rfl⟩⟩
theorem s_X15_first_28 {g : GG} {d : Nat} (hD : 1 ≤ d) {x0 x1 x2 x3 x4 y0 : Int} {M : MM} {o : AV × MM} {P : ((Int × Int) ⊕ (Int)) → Prop} (c0 : ∀ s : Int × Int, P (.inl s) → Sem g d YX15_first 9 [(1, x0), (0, x1), (0, x2), (0, s.1), (1, s.2)] [] M o) (r0 : ∀ r : Int, P (.inr r) → o = ((1, r), M)) {z : (Int × Int) ⊕ (Int)} (h : j_X15_first_28 x0 x1 x2 x3 x4 y0 M = some z) (hz : P z) : Sem g d YX15_first 28 [(1, x0), (0, x1), (0, x2), (0, x3), (1, x4)] [(0, y0)] M o := by
  delta j_X15_first_28 at h
  refine S_iload_n (i := 2) dX15_first_28 rfl rfl ?_
  refine P_icmp_eq (tgt := 45) dX15_first_29 rfl h (fun h => ?_) (fun h => ?_)
  · refine S_weak (ls' := [(9, 0), (9, 0), (9, 0), (9, 0), (1, x4)]) ⟨Or.inl rfl, ⟨Or.inl rfl, ⟨Or.inl rfl, ⟨Or.inl rfl, ⟨Or.inr rfl, trivial⟩⟩⟩⟩⟩ ?_
    obtain ⟨z0, h, hz⟩ := xit_some' (P := fun r => P r) h hz
    exact s_X15_first_45 hD (P := fun r => P (.inr r)) r0 h hz
  · refine S_iinc dX15_first_32 rfl rfl rfl ?_
    change Sem g d YX15_first 35 [(1, x0), (0, x1), (0, x2), (0, x3 + 1), (1, x4)] [] M o
    refine S_aload_n (i := 0) dX15_first_35 rfl rfl ?_
    refine S_iload_n (i := 3) dX15_first_36 rfl rfl ?_
    refine P_invVp 1 [(0, x3 + 1)] [] CVX15_front MLX15_77 dX15_first_37 rfl rfl rfl rfl rfl (by omega) h (fun r h => F_X15_front (by omega) h) (fun v1 h => ?_)
    refine S_astore dX15_first_40 (Nat.le_of_ble_eq_true rfl) rfl rfl ?_
    change Sem g d YX15_first 42 [(1, x0), (0, x1), (0, x2), (0, x3 + 1), (1, v1)] [] M o
    refine S_goto (tgt := 9) dX15_first_42 rfl ?_
    exact c0 (x3 + 1, v1) (some_P (P := fun r => P r) h hz)
theorem s_X15_first_9 {g : GG} {d : Nat} (hD : 1 ≤ d) {x0 x1 x2 x3 x4 : Int} {M : MM} {o : AV × MM} {P : ((Int × Int) ⊕ (Int)) → Prop} (c0 : ∀ s : Int × Int, P (.inl s) → Sem g d YX15_first 9 [(1, x0), (0, x1), (0, x2), (0, s.1), (1, s.2)] [] M o) (r0 : ∀ r : Int, P (.inr r) → o = ((1, r), M)) {z : (Int × Int) ⊕ (Int)} (h : b_X15_first_9 x0 x1 x2 x3 x4 M = some z) (hz : P z) : Sem g d YX15_first 9 [(1, x0), (0, x1), (0, x2), (0, x3), (1, x4)] [] M o := by
  delta b_X15_first_9 at h
  refine S_aload dX15_first_9 rfl ?_
  refine P_ifnull (tgt := 45) dX15_first_11 rfl h (fun h => ?_) (fun h => ?_)
  · refine S_weak (ls' := [(9, 0), (9, 0), (9, 0), (9, 0), (1, x4)]) ⟨Or.inl rfl, ⟨Or.inl rfl, ⟨Or.inl rfl, ⟨Or.inl rfl, ⟨Or.inr rfl, trivial⟩⟩⟩⟩⟩ ?_
    obtain ⟨z0, h, hz⟩ := xit_some' (P := fun r => P r) h hz
    exact s_X15_first_45 hD (P := fun r => P (.inr r)) r0 h hz
  · refine S_aload dX15_first_14 rfl ?_
    refine P_gfi FLX15_57 rfl dX15_first_16 h (fun v1 h => ?_)
    refine S_iload_n (i := 1) dX15_first_19 rfl rfl ?_
    refine P_icmp_ne (tgt := 27) dX15_first_20 rfl h (fun h => ?_) (fun h => ?_)
    · refine S_iconst dX15_first_27 rfl ?_
      exact s_X15_first_28 hD c0 r0 h hz
    · refine S_iconst dX15_first_23 rfl ?_
      refine S_goto (tgt := 28) dX15_first_24 rfl ?_
      exact s_X15_first_28 hD c0 r0 h hz
theorem sl_X15_first_9 {g : GG} {d : Nat} (hD : 1 ≤ d) {x0 x1 x2 x3 x4 : Int} {M : MM} {o : AV × MM} {P : (Int) → Prop} (r0 : ∀ r : Int, P r → o = ((1, r), M)) {z : Int} (h : l_X15_first_9 x0 x1 x2 x3 x4 M = some z) (hz : P z) : Sem g d YX15_first 9 [(1, x0), (0, x1), (0, x2), (0, x3), (1, x4)] [] M o := by
  refine lp_sound (S := fun s : Int × Int => Sem g d YX15_first 9 [(1, x0), (0, x1), (0, x2), (0, s.1), (1, s.2)] [] M o) (P := P) ?_ FU (x3, x4) z h hz
  intro s x hx hP
  exact s_X15_first_9 hD (P := Sum.elim (fun s : Int × Int => Sem g d YX15_first 9 [(1, x0), (0, x1), (0, x2), (0, s.1), (1, s.2)] [] M o) P) (fun s h => h) (fun s h => r0 s h) hx hP
theorem s_X15_first_0 {g : GG} {d : Nat} (hD : 1 ≤ d) {x0 x1 x2 : Int} {M : MM} {o : AV × MM} {P : (Int) → Prop} (r0 : ∀ r : Int, P r → o = ((1, r), M)) {z : Int} (h : f_X15_first x0 x1 x2 M = some z) (hz : P z) : Sem g d YX15_first 0 [(1, x0), (0, x1), (0, x2), (9, 0), (9, 0)] [] M o := by
  delta f_X15_first at h
  refine S_iconst dX15_first_0 rfl ?_
  refine S_istore_n (i := 3) dX15_first_1 rfl (Nat.le_of_ble_eq_true rfl) rfl rfl ?_
  change Sem g d YX15_first 2 [(1, x0), (0, x1), (0, x2), (0, 0), (9, 0)] [] M o
  refine S_aload_n (i := 0) dX15_first_2 rfl rfl ?_
  refine S_iconst dX15_first_3 rfl ?_
  refine P_invVp 1 [(0, 0)] [] CVX15_front MLX15_77 dX15_first_4 rfl rfl rfl rfl rfl (by omega) h (fun r h => F_X15_front (by omega) h) (fun v1 h => ?_)
  refine S_astore dX15_first_7 (Nat.le_of_ble_eq_true rfl) rfl rfl ?_
  change Sem g d YX15_first 9 [(1, x0), (0, x1), (0, x2), (0, 0), (1, v1)] [] M o
  exact sl_X15_first_9 hD r0 h hz
theorem F_X15_first {g : GG} {d : Nat} (hD : 1 ≤ d) {x0 x1 x2 : Int} {M : MM} {r : Int} (h : f_X15_first x0 x1 x2 M = some r) : Sem g d YX15_first 0 (ini YX15_first [(1, x0), (0, x1), (0, x2)]) [] M ((1, r), M) := by
  change Sem g d YX15_first 0 [(1, x0), (0, x1), (0, x2), (9, 0), (9, 0)] [] M ((1, r), M)
  exact s_X15_first_0 hD (P := fun x => x = r) (fun q e => by rw [e]) h rfl
/-! PeerSearch$Lookup.isOver()Z -/
theorem dX15_isOver_0 : decode cX15_isOver 0 = .ok (.aload_n 0, 1) := by decide +kernel
theorem dX15_isOver_1 : decode cX15_isOver 1 = .ok (.iconst 2, 1) := by decide +kernel
theorem dX15_isOver_2 : decode cX15_isOver 2 = .ok (.iconst 0, 1) := by decide +kernel
theorem dX15_isOver_3 : decode cX15_isOver 3 = .ok (.invokevirtual 73, 3) := by decide +kernel
theorem dX15_isOver_6 : decode cX15_isOver 6 = .ok (.ifnonnull 7, 3) := by decide +kernel
theorem dX15_isOver_9 : decode cX15_isOver 9 = .ok (.iconst 1, 1) := by decide +kernel
theorem dX15_isOver_10 : decode cX15_isOver 10 = .ok (.goto 4, 3) := by decide +kernel
theorem dX15_isOver_13 : decode cX15_isOver 13 = .ok (.iconst 0, 1) := by decide +kernel
theorem dX15_isOver_14 : decode cX15_isOver 14 = .ok (.ireturn, 1) := by decide +kernel
def j_X15_isOver_14 (y0 : Int) (M : MM) : Option (Int) :=
  bz y0 (some y0)
def f_X15_isOver (x0 : Int) (M : MM) : Option (Int) :=
  ck 15 x0 M <| (f_X15_first x0 2 0 M).bind fun v1 =>
  if v1 = -1 then
    j_X15_isOver_14 1 M
  else
    j_X15_isOver_14 0 M
theorem s_X15_isOver_14 {g : GG} {d : Nat} (hD : 2 ≤ d) {y0 : Int} {M : MM} {o : AV × MM} {P : (Int) → Prop} (r0 : ∀ r : Int, P r → o = ((0, r), M)) {z : Int} (h : j_X15_isOver_14 y0 M = some z) (hz : P z) : Sem g d YX15_isOver 14 [(9, 0)] [(0, y0)] M o := by
  delta j_X15_isOver_14 at h
  obtain ⟨hb, h⟩ := bz_some h
  obtain rfl := r0 _ (some_P (P := fun r => P r) h hz)
  exact P_ret dX15_isOver_14 rfl (Or.inr ⟨rfl, hb⟩)
theorem s_X15_isOver_0 {g : GG} {d : Nat} (hD : 2 ≤ d) {x0 : Int} {M : MM} {o : AV × MM} {P : (Int) → Prop} (r0 : ∀ r : Int, P r → o = ((0, r), M)) {z : Int} (h : f_X15_isOver x0 M = some z) (hz : P z) : Sem g d YX15_isOver 0 [(1, x0)] [] M o := by
  delta f_X15_isOver at h
  refine S_aload_n (i := 0) dX15_isOver_0 rfl rfl ?_
  refine S_iconst dX15_isOver_1 rfl ?_
  refine S_iconst dX15_isOver_2 rfl ?_
  refine P_invVp 1 [(0, 2), (0, 0)] [] CVX15_first MLX15_73 dX15_isOver_3 rfl rfl rfl rfl rfl (by omega) h (fun r h => F_X15_first (by omega) h) (fun v1 h => ?_)
  refine P_ifnonnull (tgt := 13) dX15_isOver_6 rfl h (fun h => ?_) (fun h => ?_)
  · refine S_iconst dX15_isOver_13 rfl ?_
    refine S_weak (ls' := [(9, 0)]) ⟨Or.inl rfl, trivial⟩ ?_
    exact s_X15_isOver_14 hD r0 h hz
  · refine S_iconst dX15_isOver_9 rfl ?_
    refine S_goto (tgt := 14) dX15_isOver_10 rfl ?_
    refine S_weak (ls' := [(9, 0)]) ⟨Or.inl rfl, trivial⟩ ?_
    exact s_X15_isOver_14 hD r0 h hz
theorem F_X15_isOver {g : GG} {d : Nat} (hD : 2 ≤ d) {x0 : Int} {M : MM} {r : Int} (h : f_X15_isOver x0 M = some r) : Sem g d YX15_isOver 0 (ini YX15_isOver [(1, x0)]) [] M ((0, r), M) := by
  change Sem g d YX15_isOver 0 [(1, x0)] [] M ((0, r), M)
  exact s_X15_isOver_0 hD (P := fun x => x = r) (fun q e => by rw [e]) h rfl
/-! PeerSearch$Publishing.next(LPeerSearch$Work;)Z -/
theorem dX30_next_0 : decode cX30_next 0 = .ok (.aload_n 0, 1) := by decide +kernel
theorem dX30_next_1 : decode cX30_next 1 = .ok (.dup, 1) := by decide +kernel
theorem dX30_next_2 : decode cX30_next 2 = .ok (.getfield 45, 3) := by decide +kernel
theorem dX30_next_5 : decode cX30_next 5 = .ok (.iconst 1, 1) := by decide +kernel
theorem dX30_next_6 : decode cX30_next 6 = .ok (.iadd, 1) := by decide +kernel
theorem dX30_next_7 : decode cX30_next 7 = .ok (.putfield 45, 3) := by decide +kernel
theorem dX30_next_10 : decode cX30_next 10 = .ok (.aload_n 0, 1) := by decide +kernel
theorem dX30_next_11 : decode cX30_next 11 = .ok (.aload_n 1, 1) := by decide +kernel
theorem dX30_next_12 : decode cX30_next 12 = .ok (.invokevirtual 76, 3) := by decide +kernel
theorem dX30_next_15 : decode cX30_next 15 = .ok (.ireturn, 1) := by decide +kernel
def f_X30_next (x0 x1 : Int) (M : MM) : Option (Int × MM) :=
  (gfi 30 2 x0 M).bind fun v1 =>
  (pfi 30 2 x0 (v1 + 1) M).bind fun M1 =>
  ck 30 x0 M1 <| (f_X30_goes x0 x1 M1).bind fun r1 =>
  bz r1.1 (some (r1.1, r1.2))
theorem s_X30_next_0 {g : GG} {d : Nat} (hD : 7 ≤ d) {x0 x1 : Int} {M : MM} {o : AV × MM} {P : (Int × MM) → Prop} (r0 : ∀ r : Int × MM, P r → o = ((0, r.1), r.2)) {z : Int × MM} (h : f_X30_next x0 x1 M = some z) (hz : P z) : Sem g d YX30_next 0 [(1, x0), (1, x1)] [] M o := by
  delta f_X30_next at h
  refine S_aload_n (i := 0) dX30_next_0 rfl rfl ?_
  refine S_dup dX30_next_1 (Nat.le_of_ble_eq_true rfl) ?_
  refine P_gfi FLX30_45 rfl dX30_next_2 h (fun v1 h => ?_)
  refine S_iconst dX30_next_5 rfl ?_
  refine S_iadd dX30_next_6 ?_
  refine P_pfi FLX30_45 FPX30_45 rfl dX30_next_7 h (fun M1 h => ?_)
  refine S_aload_n (i := 0) dX30_next_10 rfl rfl ?_
  refine S_aload_n (i := 1) dX30_next_11 rfl rfl ?_
  refine P_invVe 0 [(1, x1)] [] CVX30_goes MLX30_76 dX30_next_12 rfl rfl rfl rfl rfl (by omega) h (fun r h => F_X30_goes (by omega) h) (fun r1 h => ?_)
  obtain ⟨hb, h⟩ := bz_some h
  obtain rfl := r0 _ (some_P (P := fun r => P r) h hz)
  exact P_ret dX30_next_15 rfl (Or.inr ⟨rfl, hb⟩)
theorem F_X30_next {g : GG} {d : Nat} (hD : 7 ≤ d) {x0 x1 : Int} {M : MM} {r : Int × MM} (h : f_X30_next x0 x1 M = some r) : Sem g d YX30_next 0 (ini YX30_next [(1, x0), (1, x1)]) [] M ((0, r.1), r.2) := by
  change Sem g d YX30_next 0 [(1, x0), (1, x1)] [] M ((0, r.1), r.2)
  exact s_X30_next_0 hD (P := fun x => x = r) (fun q e => by rw [e]) h rfl
/-! PeerSearch$Publishing.write(LPeerSearch$Work;)LPeerSearch$Packet; -/
theorem dX30_write_0 : decode cX30_write 0 = .ok (.aload_n 1, 1) := by decide +kernel
theorem dX30_write_1 : decode cX30_write 1 = .ok (.getfield 17, 3) := by decide +kernel
theorem dX30_write_4 : decode cX30_write 4 = .ok (.bipush 7, 2) := by decide +kernel
theorem dX30_write_6 : decode cX30_write 6 = .ok (.invokevirtual 101, 3) := by decide +kernel
theorem dX30_write_9 : decode cX30_write 9 = .ok (.astore_n 2, 1) := by decide +kernel
theorem dX30_write_10 : decode cX30_write 10 = .ok (.aload_n 0, 1) := by decide +kernel
theorem dX30_write_11 : decode cX30_write 11 = .ok (.getfield 11, 3) := by decide +kernel
theorem dX30_write_14 : decode cX30_write 14 = .ok (.aload_n 0, 1) := by decide +kernel
theorem dX30_write_15 : decode cX30_write 15 = .ok (.getfield 45, 3) := by decide +kernel
theorem dX30_write_18 : decode cX30_write 18 = .ok (.aaload, 1) := by decide +kernel
theorem dX30_write_19 : decode cX30_write 19 = .ok (.astore_n 3, 1) := by decide +kernel
theorem dX30_write_20 : decode cX30_write 20 = .ok (.aload_n 2, 1) := by decide +kernel
theorem dX30_write_21 : decode cX30_write 21 = .ok (.aload_n 3, 1) := by decide +kernel
theorem dX30_write_22 : decode cX30_write 22 = .ok (.getfield 89, 3) := by decide +kernel
theorem dX30_write_25 : decode cX30_write 25 = .ok (.invokevirtual 105, 3) := by decide +kernel
theorem dX30_write_28 : decode cX30_write 28 = .ok (.aload_n 2, 1) := by decide +kernel
theorem dX30_write_29 : decode cX30_write 29 = .ok (.getfield 111, 3) := by decide +kernel
theorem dX30_write_32 : decode cX30_write 32 = .ok (.istore 4, 2) := by decide +kernel
theorem dX30_write_34 : decode cX30_write 34 = .ok (.aload_n 2, 1) := by decide +kernel
theorem dX30_write_35 : decode cX30_write 35 = .ok (.iconst 0, 1) := by decide +kernel
theorem dX30_write_36 : decode cX30_write 36 = .ok (.iconst 1, 1) := by decide +kernel
theorem dX30_write_37 : decode cX30_write 37 = .ok (.invokevirtual 112, 3) := by decide +kernel
theorem dX30_write_40 : decode cX30_write 40 = .ok (.iconst 0, 1) := by decide +kernel
theorem dX30_write_41 : decode cX30_write 41 = .ok (.istore 5, 2) := by decide +kernel
theorem dX30_write_43 : decode cX30_write 43 = .ok (.iconst 0, 1) := by decide +kernel
theorem dX30_write_44 : decode cX30_write 44 = .ok (.istore 6, 2) := by decide +kernel
theorem dX30_write_46 : decode cX30_write 46 = .ok (.iload 6, 2) := by decide +kernel
theorem dX30_write_48 : decode cX30_write 48 = .ok (.aload_n 0, 1) := by decide +kernel
theorem dX30_write_49 : decode cX30_write 49 = .ok (.getfield 35, 3) := by decide +kernel
theorem dX30_write_52 : decode cX30_write 52 = .ok (.if_icmp .ge 56, 3) := by decide +kernel
theorem dX30_write_55 : decode cX30_write 55 = .ok (.aload_n 3, 1) := by decide +kernel
theorem dX30_write_56 : decode cX30_write 56 = .ok (.getfield 116, 3) := by decide +kernel
theorem dX30_write_59 : decode cX30_write 59 = .ok (.iload 6, 2) := by decide +kernel
theorem dX30_write_61 : decode cX30_write 61 = .ok (.iaload, 1) := by decide +kernel
theorem dX30_write_62 : decode cX30_write 62 = .ok (.ifCond .ne 6, 3) := by decide +kernel
theorem dX30_write_65 : decode cX30_write 65 = .ok (.goto 37, 3) := by decide +kernel
theorem dX30_write_68 : decode cX30_write 68 = .ok (.aload_n 2, 1) := by decide +kernel
theorem dX30_write_69 : decode cX30_write 69 = .ok (.aload_n 1, 1) := by decide +kernel
theorem dX30_write_70 : decode cX30_write 70 = .ok (.getfield 17, 3) := by decide +kernel
theorem dX30_write_73 : decode cX30_write 73 = .ok (.getfield 120, 3) := by decide +kernel
theorem dX30_write_76 : decode cX30_write 76 = .ok (.iconst 1, 1) := by decide +kernel
theorem dX30_write_77 : decode cX30_write 77 = .ok (.invokevirtual 112, 3) := by decide +kernel
theorem dX30_write_80 : decode cX30_write 80 = .ok (.aload_n 2, 1) := by decide +kernel
theorem dX30_write_81 : decode cX30_write 81 = .ok (.iload 6, 2) := by decide +kernel
theorem dX30_write_83 : decode cX30_write 83 = .ok (.iconst 1, 1) := by decide +kernel
theorem dX30_write_84 : decode cX30_write 84 = .ok (.invokevirtual 112, 3) := by decide +kernel
theorem dX30_write_87 : decode cX30_write 87 = .ok (.aload_n 2, 1) := by decide +kernel
theorem dX30_write_88 : decode cX30_write 88 = .ok (.aload_n 3, 1) := by decide +kernel
theorem dX30_write_89 : decode cX30_write 89 = .ok (.getfield 116, 3) := by decide +kernel
theorem dX30_write_92 : decode cX30_write 92 = .ok (.iload 6, 2) := by decide +kernel
theorem dX30_write_94 : decode cX30_write 94 = .ok (.iaload, 1) := by decide +kernel
theorem dX30_write_95 : decode cX30_write 95 = .ok (.iconst 1, 1) := by decide +kernel
theorem dX30_write_96 : decode cX30_write 96 = .ok (.invokevirtual 112, 3) := by decide +kernel
theorem dX30_write_99 : decode cX30_write 99 = .ok (.iinc 5 1, 3) := by decide +kernel
theorem dX30_write_102 : decode cX30_write 102 = .ok (.iinc 6 1, 3) := by decide +kernel
theorem dX30_write_105 : decode cX30_write 105 = .ok (.goto (-59), 3) := by decide +kernel
theorem dX30_write_108 : decode cX30_write 108 = .ok (.aload_n 2, 1) := by decide +kernel
theorem dX30_write_109 : decode cX30_write 109 = .ok (.getfield 123, 3) := by decide +kernel
theorem dX30_write_112 : decode cX30_write 112 = .ok (.iload 4, 2) := by decide +kernel
theorem dX30_write_114 : decode cX30_write 114 = .ok (.iload 5, 2) := by decide +kernel
theorem dX30_write_116 : decode cX30_write 116 = .ok (.i2b, 1) := by decide +kernel
theorem dX30_write_117 : decode cX30_write 117 = .ok (.bastore, 1) := by decide +kernel
theorem dX30_write_118 : decode cX30_write 118 = .ok (.aload_n 2, 1) := by decide +kernel
theorem dX30_write_119 : decode cX30_write 119 = .ok (.areturn, 1) := by decide +kernel
def j_X30_write_108 (x2 x4 x5 : Int) (M : MM) : Option (Int × MM) :=
  (gfr 4 0 x2 M).bind fun v1 =>
  (sab v1 x4 (sx8 x5) M).bind fun M1 =>
  some (x2, M1)
def j_X30_write_102 (x0 x1 x2 x3 x4 x5 x6 : Int) (M : MM) : Option ((Int × Int × MM) ⊕ (Int × MM)) :=
  cnt (x5, x6 + 1, M)
def b_X30_write_46 (x0 x1 x2 x3 x4 x5 x6 : Int) (M : MM) : Option ((Int × Int × MM) ⊕ (Int × MM)) :=
  (gfi 30 3 x0 M).bind fun v1 =>
  if w32 x6 < w32 v1 then
    (gfr 29 3 x3 M).bind fun v2 =>
    (lai v2 x6 M).bind fun v3 =>
    if w32 v3 = 0 then
      j_X30_write_102 x0 x1 x2 x3 x4 x5 x6 M
    else
      (gfr 11 2 x1 M).bind fun v4 =>
      (gfi 17 1 v4 M).bind fun v5 =>
      ck 4 x2 M <| (f_X4_put x2 v5 1 M).bind fun M1 =>
      ck 4 x2 M1 <| (f_X4_put x2 x6 1 M1).bind fun M2 =>
      (gfr 29 3 x3 M2).bind fun v6 =>
      (lai v6 x6 M2).bind fun v7 =>
      ck 4 x2 M2 <| (f_X4_put x2 v7 1 M2).bind fun M3 =>
      j_X30_write_102 x0 x1 x2 x3 x4 (x5 + 1) x6 M3
  else
    xit (j_X30_write_108 x2 x4 x5 M)
def l_X30_write_46 (x0 x1 x2 x3 x4 x5 x6 : Int) (M : MM) : Option (Int × MM) := lpN (fun s : Int × Int × MM => b_X30_write_46 x0 x1 x2 x3 x4 s.1 s.2.1 s.2.2) FU (x5, x6, M)
def f_X30_write (x0 x1 : Int) (M : MM) : Option (Int × MM) :=
  (gfr 11 2 x1 M).bind fun v1 =>
  ck 17 v1 M <| (f_X17_begin v1 7 M).bind fun r1 =>
  (gfr 30 0 x0 r1.2).bind fun v2 =>
  (gfi 30 2 x0 r1.2).bind fun v3 =>
  (lar 10 v2 v3 r1.2).bind fun v4 =>
  (gfr 29 2 v4 r1.2).bind fun v5 =>
  ck 4 r1.1 r1.2 <| (f_X4_putKey r1.1 v5 r1.2).bind fun M1 =>
  (gfi 4 1 r1.1 M1).bind fun v6 =>
  ck 4 r1.1 M1 <| (f_X4_put r1.1 0 1 M1).bind fun M2 =>
  l_X30_write_46 x0 x1 r1.1 v4 v6 0 0 M2
theorem s_X30_write_108 {g : GG} {d : Nat} (hD : 4 ≤ d) {x2 x4 x5 : Int} {M : MM} {o : AV × MM} {P : (Int × MM) → Prop} (r0 : ∀ r : Int × MM, P r → o = ((1, r.1), r.2)) {z : Int × MM} (h : j_X30_write_108 x2 x4 x5 M = some z) (hz : P z) : Sem g d YX30_write 108 [(9, 0), (9, 0), (1, x2), (9, 0), (0, x4), (0, x5), (9, 0)] [] M o := by
  delta j_X30_write_108 at h
  refine S_aload_n (i := 2) dX30_write_108 rfl rfl ?_
  refine P_gfr FLX30_123 rfl dX30_write_109 h (fun v1 h => ?_)
  refine S_iload dX30_write_112 rfl ?_
  refine S_iload dX30_write_114 rfl ?_
  refine S_i2b dX30_write_116 ?_
  refine P_sab dX30_write_117 h (fun M1 h => ?_)
  refine S_aload_n (i := 2) dX30_write_118 rfl rfl ?_
  obtain rfl := r0 _ (some_P (P := fun r => P r) h hz)
  exact S_areturn dX30_write_119 ⟨_, rfl, Or.inl ⟨_, rfl⟩⟩
theorem s_X30_write_102 {g : GG} {d : Nat} (hD : 4 ≤ d) {x0 x1 x2 x3 x4 x5 x6 : Int} {M : MM} {o : AV × MM} {P : ((Int × Int × MM) ⊕ (Int × MM)) → Prop} (c0 : ∀ s : Int × Int × MM, P (.inl s) → Sem g d YX30_write 46 [(1, x0), (1, x1), (1, x2), (1, x3), (0, x4), (0, s.1), (0, s.2.1)] [] s.2.2 o) (r0 : ∀ r : Int × MM, P (.inr r) → o = ((1, r.1), r.2)) {z : (Int × Int × MM) ⊕ (Int × MM)} (h : j_X30_write_102 x0 x1 x2 x3 x4 x5 x6 M = some z) (hz : P z) : Sem g d YX30_write 102 [(1, x0), (1, x1), (1, x2), (1, x3), (0, x4), (0, x5), (0, x6)] [] M o := by
  delta j_X30_write_102 at h
  refine S_iinc dX30_write_102 rfl rfl rfl ?_
  change Sem g d YX30_write 105 [(1, x0), (1, x1), (1, x2), (1, x3), (0, x4), (0, x5), (0, x6 + 1)] [] M o
  refine S_goto (tgt := 46) dX30_write_105 rfl ?_
  exact c0 (x5, x6 + 1, M) (some_P (P := fun r => P r) h hz)
theorem s_X30_write_46 {g : GG} {d : Nat} (hD : 4 ≤ d) {x0 x1 x2 x3 x4 x5 x6 : Int} {M : MM} {o : AV × MM} {P : ((Int × Int × MM) ⊕ (Int × MM)) → Prop} (c0 : ∀ s : Int × Int × MM, P (.inl s) → Sem g d YX30_write 46 [(1, x0), (1, x1), (1, x2), (1, x3), (0, x4), (0, s.1), (0, s.2.1)] [] s.2.2 o) (r0 : ∀ r : Int × MM, P (.inr r) → o = ((1, r.1), r.2)) {z : (Int × Int × MM) ⊕ (Int × MM)} (h : b_X30_write_46 x0 x1 x2 x3 x4 x5 x6 M = some z) (hz : P z) : Sem g d YX30_write 46 [(1, x0), (1, x1), (1, x2), (1, x3), (0, x4), (0, x5), (0, x6)] [] M o := by
  delta b_X30_write_46 at h
  refine S_iload dX30_write_46 rfl ?_
  refine S_aload_n (i := 0) dX30_write_48 rfl rfl ?_
  refine P_gfi FLX30_35 rfl dX30_write_49 h (fun v1 h => ?_)
  refine P_icmp_ge (tgt := 108) dX30_write_52 rfl h (fun h => ?_) (fun h => ?_)
  · refine S_weak (ls' := [(9, 0), (9, 0), (1, x2), (9, 0), (0, x4), (0, x5), (9, 0)]) ⟨Or.inl rfl, ⟨Or.inl rfl, ⟨Or.inr rfl, ⟨Or.inl rfl, ⟨Or.inr rfl, ⟨Or.inr rfl, ⟨Or.inl rfl, trivial⟩⟩⟩⟩⟩⟩⟩ ?_
    obtain ⟨z0, h, hz⟩ := xit_some' (P := fun r => P r) h hz
    exact s_X30_write_108 hD (P := fun r => P (.inr r)) r0 h hz
  · refine S_aload_n (i := 3) dX30_write_55 rfl rfl ?_
    refine P_gfr FLX30_116 rfl dX30_write_56 h (fun v2 h => ?_)
    refine S_iload dX30_write_59 rfl ?_
    refine P_lai dX30_write_61 h (fun v3 h => ?_)
    refine P_if_ne (tgt := 68) dX30_write_62 rfl h (fun h => ?_) (fun h => ?_)
    · refine S_aload_n (i := 2) dX30_write_68 rfl rfl ?_
      refine S_aload_n (i := 1) dX30_write_69 rfl rfl ?_
      refine P_gfr FLX30_17 rfl dX30_write_70 h (fun v4 h => ?_)
      refine P_gfi FLX30_120 rfl dX30_write_73 h (fun v5 h => ?_)
      refine S_iconst dX30_write_76 rfl ?_
      refine P_invVm' [(0, v5), (0, 1)] [] CVX4_put MLX30_112 dX30_write_77 rfl rfl rfl rfl (by omega) h (fun r h => F_X4_put (by omega) h) (fun M1 h => ?_)
      refine S_aload_n (i := 2) dX30_write_80 rfl rfl ?_
      refine S_iload dX30_write_81 rfl ?_
      refine S_iconst dX30_write_83 rfl ?_
      refine P_invVm' [(0, x6), (0, 1)] [] CVX4_put MLX30_112 dX30_write_84 rfl rfl rfl rfl (by omega) h (fun r h => F_X4_put (by omega) h) (fun M2 h => ?_)
      refine S_aload_n (i := 2) dX30_write_87 rfl rfl ?_
      refine S_aload_n (i := 3) dX30_write_88 rfl rfl ?_
      refine P_gfr FLX30_116 rfl dX30_write_89 h (fun v6 h => ?_)
      refine S_iload dX30_write_92 rfl ?_
      refine P_lai dX30_write_94 h (fun v7 h => ?_)
      refine S_iconst dX30_write_95 rfl ?_
      refine P_invVm' [(0, v7), (0, 1)] [] CVX4_put MLX30_112 dX30_write_96 rfl rfl rfl rfl (by omega) h (fun r h => F_X4_put (by omega) h) (fun M3 h => ?_)
      refine S_iinc dX30_write_99 rfl rfl rfl ?_
      change Sem g d YX30_write 102 [(1, x0), (1, x1), (1, x2), (1, x3), (0, x4), (0, x5 + 1), (0, x6)] [] M3 o
      exact s_X30_write_102 hD c0 r0 h hz
    · refine S_goto (tgt := 102) dX30_write_65 rfl ?_
      exact s_X30_write_102 hD c0 r0 h hz
theorem sl_X30_write_46 {g : GG} {d : Nat} (hD : 4 ≤ d) {x0 x1 x2 x3 x4 x5 x6 : Int} {M : MM} {o : AV × MM} {P : (Int × MM) → Prop} (r0 : ∀ r : Int × MM, P r → o = ((1, r.1), r.2)) {z : Int × MM} (h : l_X30_write_46 x0 x1 x2 x3 x4 x5 x6 M = some z) (hz : P z) : Sem g d YX30_write 46 [(1, x0), (1, x1), (1, x2), (1, x3), (0, x4), (0, x5), (0, x6)] [] M o := by
  refine lp_sound (S := fun s : Int × Int × MM => Sem g d YX30_write 46 [(1, x0), (1, x1), (1, x2), (1, x3), (0, x4), (0, s.1), (0, s.2.1)] [] s.2.2 o) (P := P) ?_ FU (x5, x6, M) z h hz
  intro s x hx hP
  exact s_X30_write_46 hD (P := Sum.elim (fun s : Int × Int × MM => Sem g d YX30_write 46 [(1, x0), (1, x1), (1, x2), (1, x3), (0, x4), (0, s.1), (0, s.2.1)] [] s.2.2 o) P) (fun s h => h) (fun s h => r0 s h) hx hP
theorem s_X30_write_0 {g : GG} {d : Nat} (hD : 4 ≤ d) {x0 x1 : Int} {M : MM} {o : AV × MM} {P : (Int × MM) → Prop} (r0 : ∀ r : Int × MM, P r → o = ((1, r.1), r.2)) {z : Int × MM} (h : f_X30_write x0 x1 M = some z) (hz : P z) : Sem g d YX30_write 0 [(1, x0), (1, x1), (9, 0), (9, 0), (9, 0), (9, 0), (9, 0)] [] M o := by
  delta f_X30_write at h
  refine S_aload_n (i := 1) dX30_write_0 rfl rfl ?_
  refine P_gfr FLX30_17 rfl dX30_write_1 h (fun v1 h => ?_)
  refine S_bipush (z := 7) dX30_write_4 rfl ?_
  refine P_invVe 1 [(0, 7)] [] CVX17_begin MLX30_101 dX30_write_6 rfl rfl rfl rfl rfl (by omega) h (fun r h => F_X17_begin (by omega) h) (fun r1 h => ?_)
  refine S_astore_n (i := 2) dX30_write_9 rfl (Nat.le_of_ble_eq_true rfl) rfl rfl ?_
  change Sem g d YX30_write 10 [(1, x0), (1, x1), (1, r1.1), (9, 0), (9, 0), (9, 0), (9, 0)] [] r1.2 o
  refine S_aload_n (i := 0) dX30_write_10 rfl rfl ?_
  refine P_gfr FLX30_11 rfl dX30_write_11 h (fun v2 h => ?_)
  refine S_aload_n (i := 0) dX30_write_14 rfl rfl ?_
  refine P_gfi FLX30_45 rfl dX30_write_15 h (fun v3 h => ?_)
  refine P_lar (t := 10) ⟨by decide, by decide⟩ dX30_write_18 h (fun v4 h => ?_)
  refine S_astore_n (i := 3) dX30_write_19 rfl (Nat.le_of_ble_eq_true rfl) rfl rfl ?_
  change Sem g d YX30_write 20 [(1, x0), (1, x1), (1, r1.1), (1, v4), (9, 0), (9, 0), (9, 0)] [] r1.2 o
  refine S_aload_n (i := 2) dX30_write_20 rfl rfl ?_
  refine S_aload_n (i := 3) dX30_write_21 rfl rfl ?_
  refine P_gfr FLX30_89 rfl dX30_write_22 h (fun v5 h => ?_)
  refine P_invVm' [(1, v5)] [] CVX4_putKey MLX30_105 dX30_write_25 rfl rfl rfl rfl (by omega) h (fun r h => F_X4_putKey (by omega) h) (fun M1 h => ?_)
  refine S_aload_n (i := 2) dX30_write_28 rfl rfl ?_
  refine P_gfi FLX30_111 rfl dX30_write_29 h (fun v6 h => ?_)
  refine S_istore dX30_write_32 (Nat.le_of_ble_eq_true rfl) rfl rfl ?_
  change Sem g d YX30_write 34 [(1, x0), (1, x1), (1, r1.1), (1, v4), (0, v6), (9, 0), (9, 0)] [] M1 o
  refine S_aload_n (i := 2) dX30_write_34 rfl rfl ?_
  refine S_iconst dX30_write_35 rfl ?_
  refine S_iconst dX30_write_36 rfl ?_
  refine P_invVm' [(0, 0), (0, 1)] [] CVX4_put MLX30_112 dX30_write_37 rfl rfl rfl rfl (by omega) h (fun r h => F_X4_put (by omega) h) (fun M2 h => ?_)
  refine S_iconst dX30_write_40 rfl ?_
  refine S_istore dX30_write_41 (Nat.le_of_ble_eq_true rfl) rfl rfl ?_
  change Sem g d YX30_write 43 [(1, x0), (1, x1), (1, r1.1), (1, v4), (0, v6), (0, 0), (9, 0)] [] M2 o
  refine S_iconst dX30_write_43 rfl ?_
  refine S_istore dX30_write_44 (Nat.le_of_ble_eq_true rfl) rfl rfl ?_
  change Sem g d YX30_write 46 [(1, x0), (1, x1), (1, r1.1), (1, v4), (0, v6), (0, 0), (0, 0)] [] M2 o
  exact sl_X30_write_46 hD r0 h hz
theorem F_X30_write {g : GG} {d : Nat} (hD : 4 ≤ d) {x0 x1 : Int} {M : MM} {r : Int × MM} (h : f_X30_write x0 x1 M = some r) : Sem g d YX30_write 0 (ini YX30_write [(1, x0), (1, x1)]) [] M ((1, r.1), r.2) := by
  change Sem g d YX30_write 0 [(1, x0), (1, x1), (9, 0), (9, 0), (9, 0), (9, 0), (9, 0)] [] M ((1, r.1), r.2)
  exact s_X30_write_0 hD (P := fun x => x = r) (fun q e => by rw [e]) h rfl
/-! PeerSearch$Publishing.looked(LPeerSearch$Work;)Z -/
theorem dX30_looked_0 : decode cX30_looked 0 = .ok (.iconst 0, 1) := by decide +kernel
theorem dX30_looked_1 : decode cX30_looked 1 = .ok (.istore_n 2, 1) := by decide +kernel
theorem dX30_looked_2 : decode cX30_looked 2 = .ok (.aload_n 1, 1) := by decide +kernel
theorem dX30_looked_3 : decode cX30_looked 3 = .ok (.getfield 127, 3) := by decide +kernel
theorem dX30_looked_6 : decode cX30_looked 6 = .ok (.iload_n 2, 1) := by decide +kernel
theorem dX30_looked_7 : decode cX30_looked 7 = .ok (.invokevirtual 131, 3) := by decide +kernel
theorem dX30_looked_10 : decode cX30_looked 10 = .ok (.ifnull 109, 3) := by decide +kernel
theorem dX30_looked_13 : decode cX30_looked 13 = .ok (.aload_n 1, 1) := by decide +kernel
theorem dX30_looked_14 : decode cX30_looked 14 = .ok (.getfield 127, 3) := by decide +kernel
theorem dX30_looked_17 : decode cX30_looked 17 = .ok (.iload_n 2, 1) := by decide +kernel
theorem dX30_looked_18 : decode cX30_looked 18 = .ok (.invokevirtual 131, 3) := by decide +kernel
theorem dX30_looked_21 : decode cX30_looked 21 = .ok (.astore_n 3, 1) := by decide +kernel
theorem dX30_looked_22 : decode cX30_looked 22 = .ok (.aload_n 0, 1) := by decide +kernel
theorem dX30_looked_23 : decode cX30_looked 23 = .ok (.aload_n 1, 1) := by decide +kernel
theorem dX30_looked_24 : decode cX30_looked 24 = .ok (.invokevirtual 137, 3) := by decide +kernel
theorem dX30_looked_27 : decode cX30_looked 27 = .ok (.astore 4, 2) := by decide +kernel
theorem dX30_looked_29 : decode cX30_looked 29 = .ok (.aload_n 3, 1) := by decide +kernel
theorem dX30_looked_30 : decode cX30_looked 30 = .ok (.getfield 141, 3) := by decide +kernel
theorem dX30_looked_33 : decode cX30_looked 33 = .ok (.aload_n 1, 1) := by decide +kernel
theorem dX30_looked_34 : decode cX30_looked 34 = .ok (.getfield 17, 3) := by decide +kernel
theorem dX30_looked_37 : decode cX30_looked 37 = .ok (.getfield 144, 3) := by decide +kernel
theorem dX30_looked_40 : decode cX30_looked 40 = .ok (.invokevirtual 145, 3) := by decide +kernel
theorem dX30_looked_43 : decode cX30_looked 43 = .ok (.ifCond .eq 37, 3) := by decide +kernel
theorem dX30_looked_46 : decode cX30_looked 46 = .ok (.aload_n 1, 1) := by decide +kernel
theorem dX30_looked_47 : decode cX30_looked 47 = .ok (.getfield 17, 3) := by decide +kernel
theorem dX30_looked_50 : decode cX30_looked 50 = .ok (.aload 4, 2) := by decide +kernel
theorem dX30_looked_52 : decode cX30_looked 52 = .ok (.aconst_null, 1) := by decide +kernel
theorem dX30_looked_53 : decode cX30_looked 53 = .ok (.invokevirtual 151, 3) := by decide +kernel
theorem dX30_looked_56 : decode cX30_looked 56 = .ok (.ifCond .eq 16, 3) := by decide +kernel
theorem dX30_looked_59 : decode cX30_looked 59 = .ok (.aload_n 0, 1) := by decide +kernel
theorem dX30_looked_60 : decode cX30_looked 60 = .ok (.dup, 1) := by decide +kernel
theorem dX30_looked_61 : decode cX30_looked 61 = .ok (.getfield 51, 3) := by decide +kernel
theorem dX30_looked_64 : decode cX30_looked 64 = .ok (.iconst 1, 1) := by decide +kernel
theorem dX30_looked_65 : decode cX30_looked 65 = .ok (.iadd, 1) := by decide +kernel
theorem dX30_looked_66 : decode cX30_looked 66 = .ok (.putfield 51, 3) := by decide +kernel
theorem dX30_looked_69 : decode cX30_looked 69 = .ok (.goto 44, 3) := by decide +kernel
theorem dX30_looked_72 : decode cX30_looked 72 = .ok (.aload_n 0, 1) := by decide +kernel
theorem dX30_looked_73 : decode cX30_looked 73 = .ok (.iconst 1, 1) := by decide +kernel
theorem dX30_looked_74 : decode cX30_looked 74 = .ok (.putfield 54, 3) := by decide +kernel
theorem dX30_looked_77 : decode cX30_looked 77 = .ok (.goto 36, 3) := by decide +kernel
theorem dX30_looked_80 : decode cX30_looked 80 = .ok (.aload_n 1, 1) := by decide +kernel
theorem dX30_looked_81 : decode cX30_looked 81 = .ok (.aload_n 3, 1) := by decide +kernel
theorem dX30_looked_82 : decode cX30_looked 82 = .ok (.getfield 141, 3) := by decide +kernel
theorem dX30_looked_85 : decode cX30_looked 85 = .ok (.aload_n 3, 1) := by decide +kernel
theorem dX30_looked_86 : decode cX30_looked 86 = .ok (.getfield 155, 3) := by decide +kernel
theorem dX30_looked_89 : decode cX30_looked 89 = .ok (.invokevirtual 158, 3) := by decide +kernel
theorem dX30_looked_92 : decode cX30_looked 92 = .ok (.ifCond .eq 16, 3) := by decide +kernel
theorem dX30_looked_95 : decode cX30_looked 95 = .ok (.aload_n 0, 1) := by decide +kernel
theorem dX30_looked_96 : decode cX30_looked 96 = .ok (.dup, 1) := by decide +kernel
theorem dX30_looked_97 : decode cX30_looked 97 = .ok (.getfield 48, 3) := by decide +kernel
theorem dX30_looked_100 : decode cX30_looked 100 = .ok (.iconst 1, 1) := by decide +kernel
theorem dX30_looked_101 : decode cX30_looked 101 = .ok (.iadd, 1) := by decide +kernel
theorem dX30_looked_102 : decode cX30_looked 102 = .ok (.putfield 48, 3) := by decide +kernel
theorem dX30_looked_105 : decode cX30_looked 105 = .ok (.goto 8, 3) := by decide +kernel
theorem dX30_looked_108 : decode cX30_looked 108 = .ok (.aload_n 0, 1) := by decide +kernel
theorem dX30_looked_109 : decode cX30_looked 109 = .ok (.iconst 1, 1) := by decide +kernel
theorem dX30_looked_110 : decode cX30_looked 110 = .ok (.putfield 54, 3) := by decide +kernel
theorem dX30_looked_113 : decode cX30_looked 113 = .ok (.iinc 2 1, 3) := by decide +kernel
theorem dX30_looked_116 : decode cX30_looked 116 = .ok (.goto (-114), 3) := by decide +kernel
theorem dX30_looked_119 : decode cX30_looked 119 = .ok (.aload_n 1, 1) := by decide +kernel
theorem dX30_looked_120 : decode cX30_looked 120 = .ok (.getfield 80, 3) := by decide +kernel
theorem dX30_looked_123 : decode cX30_looked 123 = .ok (.ifnull 14, 3) := by decide +kernel
theorem dX30_looked_126 : decode cX30_looked 126 = .ok (.aload_n 1, 1) := by decide +kernel
theorem dX30_looked_127 : decode cX30_looked 127 = .ok (.getfield 80, 3) := by decide +kernel
theorem dX30_looked_130 : decode cX30_looked 130 = .ok (.aload_n 0, 1) := by decide +kernel
theorem dX30_looked_131 : decode cX30_looked 131 = .ok (.getfield 51, 3) := by decide +kernel
theorem dX30_looked_134 : decode cX30_looked 134 = .ok (.putfield 84, 3) := by decide +kernel
theorem dX30_looked_137 : decode cX30_looked 137 = .ok (.aload_n 0, 1) := by decide +kernel
theorem dX30_looked_138 : decode cX30_looked 138 = .ok (.getfield 48, 3) := by decide +kernel
theorem dX30_looked_141 : decode cX30_looked 141 = .ok (.ifCond .ne 15, 3) := by decide +kernel
theorem dX30_looked_144 : decode cX30_looked 144 = .ok (.aload_n 0, 1) := by decide +kernel
theorem dX30_looked_145 : decode cX30_looked 145 = .ok (.aload_n 1, 1) := by decide +kernel
theorem dX30_looked_146 : decode cX30_looked 146 = .ok (.invokevirtual 162, 3) := by decide +kernel
theorem dX30_looked_149 : decode cX30_looked 149 = .ok (.ifCond .eq 7, 3) := by decide +kernel
theorem dX30_looked_152 : decode cX30_looked 152 = .ok (.iconst 1, 1) := by decide +kernel
theorem dX30_looked_153 : decode cX30_looked 153 = .ok (.goto 4, 3) := by decide +kernel
theorem dX30_looked_156 : decode cX30_looked 156 = .ok (.iconst 0, 1) := by decide +kernel
theorem dX30_looked_157 : decode cX30_looked 157 = .ok (.ireturn, 1) := by decide +kernel
def j_X30_looked_157 (y0 : Int) (M : MM) : Option (Int × MM) :=
  bz y0 (some (y0, M))
def j_X30_looked_156 (M : MM) : Option (Int × MM) :=
  j_X30_looked_157 0 M
def j_X30_looked_137 (x0 x1 : Int) (M : MM) : Option (Int × MM) :=
  (gfi 30 4 x0 M).bind fun v1 =>
  if w32 v1 = 0 then
    ck 30 x0 M <| (f_X30_next x0 x1 M).bind fun r1 =>
    if w32 r1.1 = 0 then
      j_X30_looked_156 r1.2
    else
      j_X30_looked_157 1 r1.2
  else
    j_X30_looked_156 M
def j_X30_looked_119 (x0 x1 : Int) (M : MM) : Option (Int × MM) :=
  (gfr 11 4 x1 M).bind fun v1 =>
  if v1 = -1 then
    j_X30_looked_137 x0 x1 M
  else
    (gfr 11 4 x1 M).bind fun v2 =>
    (gfi 30 5 x0 M).bind fun v3 =>
    (pfi 26 4 v2 v3 M).bind fun M1 =>
    j_X30_looked_137 x0 x1 M1
def j_X30_looked_113 (x0 x1 x2 : Int) (M : MM) : Option ((Int × MM) ⊕ (Int × MM)) :=
  cnt (x2 + 1, M)
def b_X30_looked_2 (x0 x1 x2 : Int) (M : MM) : Option ((Int × MM) ⊕ (Int × MM)) :=
  (gfr 11 1 x1 M).bind fun v1 =>
  ck 15 v1 M <| (f_X15_front v1 x2 M).bind fun v2 =>
  if v2 = -1 then
    xit (j_X30_looked_119 x0 x1 M)
  else
    (gfr 11 1 x1 M).bind fun v3 =>
    ck 15 v3 M <| (f_X15_front v3 x2 M).bind fun v4 =>
    ck 30 x0 M <| (f_X30_write x0 x1 M).bind fun r1 =>
    (gfr 27 0 v4 r1.2).bind fun v5 =>
    (gfr 11 2 x1 r1.2).bind fun v6 =>
    (gfr 17 2 v6 r1.2).bind fun v7 =>
    ck 3 v5 r1.2 <| (f_X3_is v5 v7 r1.2).bind fun v8 =>
    if w32 v8 = 0 then
      (gfr 27 0 v4 r1.2).bind fun v9 =>
      (gfi 27 1 v4 r1.2).bind fun v10 =>
      ck 11 x1 r1.2 <| (f_X11_ask x1 v9 v10 r1.2).bind fun r2 =>
      if w32 r2.1 = 0 then
        (pfz 30 6 x0 1 r2.2).bind fun M1 =>
        j_X30_looked_113 x0 x1 x2 M1
      else
        (gfi 30 4 x0 r2.2).bind fun v11 =>
        (pfi 30 4 x0 (v11 + 1) r2.2).bind fun M2 =>
        j_X30_looked_113 x0 x1 x2 M2
    else
      (gfr 11 2 x1 r1.2).bind fun v12 =>
      ck 17 v12 r1.2 <| (f_X17_answers v12 r1.1 (-1) r1.2).bind fun r3 =>
      if w32 r3.1 = 0 then
        (pfz 30 6 x0 1 r3.2).bind fun M3 =>
        j_X30_looked_113 x0 x1 x2 M3
      else
        (gfi 30 5 x0 r3.2).bind fun v13 =>
        (pfi 30 5 x0 (v13 + 1) r3.2).bind fun M4 =>
        j_X30_looked_113 x0 x1 x2 M4
def l_X30_looked_2 (x0 x1 x2 : Int) (M : MM) : Option (Int × MM) := lpN (fun s : Int × MM => b_X30_looked_2 x0 x1 s.1 s.2) FU (x2, M)
def f_X30_looked (x0 x1 : Int) (M : MM) : Option (Int × MM) :=
  l_X30_looked_2 x0 x1 0 M
theorem s_X30_looked_157 {g : GG} {d : Nat} (hD : 10 ≤ d) {y0 : Int} {M : MM} {o : AV × MM} {P : (Int × MM) → Prop} (r0 : ∀ r : Int × MM, P r → o = ((0, r.1), r.2)) {z : Int × MM} (h : j_X30_looked_157 y0 M = some z) (hz : P z) : Sem g d YX30_looked 157 [(9, 0), (9, 0), (9, 0), (9, 0), (9, 0)] [(0, y0)] M o := by
  delta j_X30_looked_157 at h
  obtain ⟨hb, h⟩ := bz_some h
  obtain rfl := r0 _ (some_P (P := fun r => P r) h hz)
  exact P_ret dX30_looked_157 rfl (Or.inr ⟨rfl, hb⟩)
theorem s_X30_looked_156 {g : GG} {d : Nat} (hD : 10 ≤ d) {M : MM} {o : AV × MM} {P : (Int × MM) → Prop} (r0 : ∀ r : Int × MM, P r → o = ((0, r.1), r.2)) {z : Int × MM} (h : j_X30_looked_156 M = some z) (hz : P z) : Sem g d YX30_looked 156 [(9, 0), (9, 0), (9, 0), (9, 0), (9, 0)] [] M o := by
  delta j_X30_looked_156 at h
  refine S_iconst dX30_looked_156 rfl ?_
  exact s_X30_looked_157 hD r0 h hz
theorem s_X30_looked_137 {g : GG} {d : Nat} (hD : 10 ≤ d) {x0 x1 : Int} {M : MM} {o : AV × MM} {P : (Int × MM) → Prop} (r0 : ∀ r : Int × MM, P r → o = ((0, r.1), r.2)) {z : Int × MM} (h : j_X30_looked_137 x0 x1 M = some z) (hz : P z) : Sem g d YX30_looked 137 [(1, x0), (1, x1), (9, 0), (9, 0), (9, 0)] [] M o := by
  delta j_X30_looked_137 at h
  refine S_aload_n (i := 0) dX30_looked_137 rfl rfl ?_
  refine P_gfi FLX30_48 rfl dX30_looked_138 h (fun v1 h => ?_)
  refine P_if_ne (tgt := 156) dX30_looked_141 rfl h (fun h => ?_) (fun h => ?_)
  · refine S_weak (ls' := [(9, 0), (9, 0), (9, 0), (9, 0), (9, 0)]) ⟨Or.inl rfl, ⟨Or.inl rfl, ⟨Or.inl rfl, ⟨Or.inl rfl, ⟨Or.inl rfl, trivial⟩⟩⟩⟩⟩ ?_
    exact s_X30_looked_156 hD r0 h hz
  · refine S_aload_n (i := 0) dX30_looked_144 rfl rfl ?_
    refine S_aload_n (i := 1) dX30_looked_145 rfl rfl ?_
    refine P_invVe 0 [(1, x1)] [] CVX30_next MLX30_162 dX30_looked_146 rfl rfl rfl rfl rfl (by omega) h (fun r h => F_X30_next (by omega) h) (fun r1 h => ?_)
    refine P_if_eq (tgt := 156) dX30_looked_149 rfl h (fun h => ?_) (fun h => ?_)
    · refine S_weak (ls' := [(9, 0), (9, 0), (9, 0), (9, 0), (9, 0)]) ⟨Or.inl rfl, ⟨Or.inl rfl, ⟨Or.inl rfl, ⟨Or.inl rfl, ⟨Or.inl rfl, trivial⟩⟩⟩⟩⟩ ?_
      exact s_X30_looked_156 hD r0 h hz
    · refine S_iconst dX30_looked_152 rfl ?_
      refine S_goto (tgt := 157) dX30_looked_153 rfl ?_
      refine S_weak (ls' := [(9, 0), (9, 0), (9, 0), (9, 0), (9, 0)]) ⟨Or.inl rfl, ⟨Or.inl rfl, ⟨Or.inl rfl, ⟨Or.inl rfl, ⟨Or.inl rfl, trivial⟩⟩⟩⟩⟩ ?_
      exact s_X30_looked_157 hD r0 h hz
theorem s_X30_looked_119 {g : GG} {d : Nat} (hD : 10 ≤ d) {x0 x1 : Int} {M : MM} {o : AV × MM} {P : (Int × MM) → Prop} (r0 : ∀ r : Int × MM, P r → o = ((0, r.1), r.2)) {z : Int × MM} (h : j_X30_looked_119 x0 x1 M = some z) (hz : P z) : Sem g d YX30_looked 119 [(1, x0), (1, x1), (9, 0), (9, 0), (9, 0)] [] M o := by
  delta j_X30_looked_119 at h
  refine S_aload_n (i := 1) dX30_looked_119 rfl rfl ?_
  refine P_gfr FLX30_80 rfl dX30_looked_120 h (fun v1 h => ?_)
  refine P_ifnull (tgt := 137) dX30_looked_123 rfl h (fun h => ?_) (fun h => ?_)
  · exact s_X30_looked_137 hD r0 h hz
  · refine S_aload_n (i := 1) dX30_looked_126 rfl rfl ?_
    refine P_gfr FLX30_80 rfl dX30_looked_127 h (fun v2 h => ?_)
    refine S_aload_n (i := 0) dX30_looked_130 rfl rfl ?_
    refine P_gfi FLX30_51 rfl dX30_looked_131 h (fun v3 h => ?_)
    refine P_pfi FLX30_84 FPX30_84 rfl dX30_looked_134 h (fun M1 h => ?_)
    exact s_X30_looked_137 hD r0 h hz
theorem s_X30_looked_113 {g : GG} {d : Nat} (hD : 10 ≤ d) {x0 x1 x2 : Int} {M : MM} {o : AV × MM} {P : ((Int × MM) ⊕ (Int × MM)) → Prop} (c0 : ∀ s : Int × MM, P (.inl s) → Sem g d YX30_looked 2 [(1, x0), (1, x1), (0, s.1), (9, 0), (9, 0)] [] s.2 o) (r0 : ∀ r : Int × MM, P (.inr r) → o = ((0, r.1), r.2)) {z : (Int × MM) ⊕ (Int × MM)} (h : j_X30_looked_113 x0 x1 x2 M = some z) (hz : P z) : Sem g d YX30_looked 113 [(1, x0), (1, x1), (0, x2), (9, 0), (9, 0)] [] M o := by
  delta j_X30_looked_113 at h
  refine S_iinc dX30_looked_113 rfl rfl rfl ?_
  change Sem g d YX30_looked 116 [(1, x0), (1, x1), (0, x2 + 1), (9, 0), (9, 0)] [] M o
  refine S_goto (tgt := 2) dX30_looked_116 rfl ?_
  exact c0 (x2 + 1, M) (some_P (P := fun r => P r) h hz)
theorem s_X30_looked_2 {g : GG} {d : Nat} (hD : 10 ≤ d) {x0 x1 x2 : Int} {M : MM} {o : AV × MM} {P : ((Int × MM) ⊕ (Int × MM)) → Prop} (c0 : ∀ s : Int × MM, P (.inl s) → Sem g d YX30_looked 2 [(1, x0), (1, x1), (0, s.1), (9, 0), (9, 0)] [] s.2 o) (r0 : ∀ r : Int × MM, P (.inr r) → o = ((0, r.1), r.2)) {z : (Int × MM) ⊕ (Int × MM)} (h : b_X30_looked_2 x0 x1 x2 M = some z) (hz : P z) : Sem g d YX30_looked 2 [(1, x0), (1, x1), (0, x2), (9, 0), (9, 0)] [] M o := by
  delta b_X30_looked_2 at h
  refine S_aload_n (i := 1) dX30_looked_2 rfl rfl ?_
  refine P_gfr FLX30_127 rfl dX30_looked_3 h (fun v1 h => ?_)
  refine S_iload_n (i := 2) dX30_looked_6 rfl rfl ?_
  refine P_invVp 1 [(0, x2)] [] CVX15_front MLX30_131 dX30_looked_7 rfl rfl rfl rfl rfl (by omega) h (fun r h => F_X15_front (by omega) h) (fun v2 h => ?_)
  refine P_ifnull (tgt := 119) dX30_looked_10 rfl h (fun h => ?_) (fun h => ?_)
  · refine S_weak (ls' := [(1, x0), (1, x1), (9, 0), (9, 0), (9, 0)]) ⟨Or.inr rfl, ⟨Or.inr rfl, ⟨Or.inl rfl, ⟨Or.inl rfl, ⟨Or.inl rfl, trivial⟩⟩⟩⟩⟩ ?_
    obtain ⟨z0, h, hz⟩ := xit_some' (P := fun r => P r) h hz
    exact s_X30_looked_119 hD (P := fun r => P (.inr r)) r0 h hz
  · refine S_aload_n (i := 1) dX30_looked_13 rfl rfl ?_
    refine P_gfr FLX30_127 rfl dX30_looked_14 h (fun v3 h => ?_)
    refine S_iload_n (i := 2) dX30_looked_17 rfl rfl ?_
    refine P_invVp 1 [(0, x2)] [] CVX15_front MLX30_131 dX30_looked_18 rfl rfl rfl rfl rfl (by omega) h (fun r h => F_X15_front (by omega) h) (fun v4 h => ?_)
    refine S_astore_n (i := 3) dX30_looked_21 rfl (Nat.le_of_ble_eq_true rfl) rfl rfl ?_
    change Sem g d YX30_looked 22 [(1, x0), (1, x1), (0, x2), (1, v4), (9, 0)] [] M o
    refine S_aload_n (i := 0) dX30_looked_22 rfl rfl ?_
    refine S_aload_n (i := 1) dX30_looked_23 rfl rfl ?_
    refine P_invVe 1 [(1, x1)] [] CVX30_write MLX30_137 dX30_looked_24 rfl rfl rfl rfl rfl (by omega) h (fun r h => F_X30_write (by omega) h) (fun r1 h => ?_)
    refine S_astore dX30_looked_27 (Nat.le_of_ble_eq_true rfl) rfl rfl ?_
    change Sem g d YX30_looked 29 [(1, x0), (1, x1), (0, x2), (1, v4), (1, r1.1)] [] r1.2 o
    refine S_aload_n (i := 3) dX30_looked_29 rfl rfl ?_
    refine P_gfr FLX30_141 rfl dX30_looked_30 h (fun v5 h => ?_)
    refine S_aload_n (i := 1) dX30_looked_33 rfl rfl ?_
    refine P_gfr FLX30_17 rfl dX30_looked_34 h (fun v6 h => ?_)
    refine P_gfr FLX30_144 rfl dX30_looked_37 h (fun v7 h => ?_)
    refine P_invVp 0 [(1, v7)] [] CVX3_is MLX30_145 dX30_looked_40 rfl rfl rfl rfl rfl (by omega) h (fun r h => F_X3_is (by omega) h) (fun v8 h => ?_)
    refine P_if_eq (tgt := 80) dX30_looked_43 rfl h (fun h => ?_) (fun h => ?_)
    · refine S_aload_n (i := 1) dX30_looked_80 rfl rfl ?_
      refine S_aload_n (i := 3) dX30_looked_81 rfl rfl ?_
      refine P_gfr FLX30_141 rfl dX30_looked_82 h (fun v9 h => ?_)
      refine S_aload_n (i := 3) dX30_looked_85 rfl rfl ?_
      refine P_gfi FLX30_155 rfl dX30_looked_86 h (fun v10 h => ?_)
      refine P_invVe 0 [(1, v9), (0, v10)] [] CVX11_ask MLX30_158 dX30_looked_89 rfl rfl rfl rfl rfl (by omega) h (fun r h => F_X11_ask (by omega) h) (fun r2 h => ?_)
      refine P_if_eq (tgt := 108) dX30_looked_92 rfl h (fun h => ?_) (fun h => ?_)
      · refine S_aload_n (i := 0) dX30_looked_108 rfl rfl ?_
        refine S_iconst dX30_looked_109 rfl ?_
        refine P_pfz FLX30_54 FPX30_54 rfl dX30_looked_110 h (fun M1 h => ?_)
        refine S_weak (ls' := [(1, x0), (1, x1), (0, x2), (9, 0), (9, 0)]) ⟨Or.inr rfl, ⟨Or.inr rfl, ⟨Or.inr rfl, ⟨Or.inl rfl, ⟨Or.inl rfl, trivial⟩⟩⟩⟩⟩ ?_
        exact s_X30_looked_113 hD c0 r0 h hz
      · refine S_aload_n (i := 0) dX30_looked_95 rfl rfl ?_
        refine S_dup dX30_looked_96 (Nat.le_of_ble_eq_true rfl) ?_
        refine P_gfi FLX30_48 rfl dX30_looked_97 h (fun v11 h => ?_)
        refine S_iconst dX30_looked_100 rfl ?_
        refine S_iadd dX30_looked_101 ?_
        refine P_pfi FLX30_48 FPX30_48 rfl dX30_looked_102 h (fun M2 h => ?_)
        refine S_goto (tgt := 113) dX30_looked_105 rfl ?_
        refine S_weak (ls' := [(1, x0), (1, x1), (0, x2), (9, 0), (9, 0)]) ⟨Or.inr rfl, ⟨Or.inr rfl, ⟨Or.inr rfl, ⟨Or.inl rfl, ⟨Or.inl rfl, trivial⟩⟩⟩⟩⟩ ?_
        exact s_X30_looked_113 hD c0 r0 h hz
    · refine S_aload_n (i := 1) dX30_looked_46 rfl rfl ?_
      refine P_gfr FLX30_17 rfl dX30_looked_47 h (fun v12 h => ?_)
      refine S_aload dX30_looked_50 rfl ?_
      refine S_null dX30_looked_52 ?_
      refine P_invVe 0 [(1, r1.1), (1, (-1))] [] CVX17_answers MLX30_151 dX30_looked_53 rfl rfl rfl rfl rfl (by omega) h (fun r h => F_X17_answers (by omega) h) (fun r3 h => ?_)
      refine P_if_eq (tgt := 72) dX30_looked_56 rfl h (fun h => ?_) (fun h => ?_)
      · refine S_aload_n (i := 0) dX30_looked_72 rfl rfl ?_
        refine S_iconst dX30_looked_73 rfl ?_
        refine P_pfz FLX30_54 FPX30_54 rfl dX30_looked_74 h (fun M3 h => ?_)
        refine S_goto (tgt := 113) dX30_looked_77 rfl ?_
        refine S_weak (ls' := [(1, x0), (1, x1), (0, x2), (9, 0), (9, 0)]) ⟨Or.inr rfl, ⟨Or.inr rfl, ⟨Or.inr rfl, ⟨Or.inl rfl, ⟨Or.inl rfl, trivial⟩⟩⟩⟩⟩ ?_
        exact s_X30_looked_113 hD c0 r0 h hz
      · refine S_aload_n (i := 0) dX30_looked_59 rfl rfl ?_
        refine S_dup dX30_looked_60 (Nat.le_of_ble_eq_true rfl) ?_
        refine P_gfi FLX30_51 rfl dX30_looked_61 h (fun v13 h => ?_)
        refine S_iconst dX30_looked_64 rfl ?_
        refine S_iadd dX30_looked_65 ?_
        refine P_pfi FLX30_51 FPX30_51 rfl dX30_looked_66 h (fun M4 h => ?_)
        refine S_goto (tgt := 113) dX30_looked_69 rfl ?_
        refine S_weak (ls' := [(1, x0), (1, x1), (0, x2), (9, 0), (9, 0)]) ⟨Or.inr rfl, ⟨Or.inr rfl, ⟨Or.inr rfl, ⟨Or.inl rfl, ⟨Or.inl rfl, trivial⟩⟩⟩⟩⟩ ?_
        exact s_X30_looked_113 hD c0 r0 h hz
theorem sl_X30_looked_2 {g : GG} {d : Nat} (hD : 10 ≤ d) {x0 x1 x2 : Int} {M : MM} {o : AV × MM} {P : (Int × MM) → Prop} (r0 : ∀ r : Int × MM, P r → o = ((0, r.1), r.2)) {z : Int × MM} (h : l_X30_looked_2 x0 x1 x2 M = some z) (hz : P z) : Sem g d YX30_looked 2 [(1, x0), (1, x1), (0, x2), (9, 0), (9, 0)] [] M o := by
  refine lp_sound (S := fun s : Int × MM => Sem g d YX30_looked 2 [(1, x0), (1, x1), (0, s.1), (9, 0), (9, 0)] [] s.2 o) (P := P) ?_ FU (x2, M) z h hz
  intro s x hx hP
  exact s_X30_looked_2 hD (P := Sum.elim (fun s : Int × MM => Sem g d YX30_looked 2 [(1, x0), (1, x1), (0, s.1), (9, 0), (9, 0)] [] s.2 o) P) (fun s h => h) (fun s h => r0 s h) hx hP
theorem s_X30_looked_0 {g : GG} {d : Nat} (hD : 10 ≤ d) {x0 x1 : Int} {M : MM} {o : AV × MM} {P : (Int × MM) → Prop} (r0 : ∀ r : Int × MM, P r → o = ((0, r.1), r.2)) {z : Int × MM} (h : f_X30_looked x0 x1 M = some z) (hz : P z) : Sem g d YX30_looked 0 [(1, x0), (1, x1), (9, 0), (9, 0), (9, 0)] [] M o := by
  delta f_X30_looked at h
  refine S_iconst dX30_looked_0 rfl ?_
  refine S_istore_n (i := 2) dX30_looked_1 rfl (Nat.le_of_ble_eq_true rfl) rfl rfl ?_
  change Sem g d YX30_looked 2 [(1, x0), (1, x1), (0, 0), (9, 0), (9, 0)] [] M o
  exact sl_X30_looked_2 hD r0 h hz
theorem F_X30_looked {g : GG} {d : Nat} (hD : 10 ≤ d) {x0 x1 : Int} {M : MM} {r : Int × MM} (h : f_X30_looked x0 x1 M = some r) : Sem g d YX30_looked 0 (ini YX30_looked [(1, x0), (1, x1)]) [] M ((0, r.1), r.2) := by
  change Sem g d YX30_looked 0 [(1, x0), (1, x1), (9, 0), (9, 0), (9, 0)] [] M ((0, r.1), r.2)
  exact s_X30_looked_0 hD (P := fun x => x = r) (fun q e => by rw [e]) h rfl
/-! PeerSearch$Lookup.next()LPeerSearch$Entry; -/
theorem dX15_next_0 : decode cX15_next 0 = .ok (.aload_n 0, 1) := by decide +kernel
theorem dX15_next_1 : decode cX15_next 1 = .ok (.iconst 0, 1) := by decide +kernel
theorem dX15_next_2 : decode cX15_next 2 = .ok (.iconst 1, 1) := by decide +kernel
theorem dX15_next_3 : decode cX15_next 3 = .ok (.invokevirtual 73, 3) := by decide +kernel
theorem dX15_next_6 : decode cX15_next 6 = .ok (.areturn, 1) := by decide +kernel
def f_X15_next (x0 : Int) (M : MM) : Option (Int) :=
  ck 15 x0 M <| (f_X15_first x0 0 1 M).bind fun v1 =>
  some v1
theorem s_X15_next_0 {g : GG} {d : Nat} (hD : 2 ≤ d) {x0 : Int} {M : MM} {o : AV × MM} {P : (Int) → Prop} (r0 : ∀ r : Int, P r → o = ((1, r), M)) {z : Int} (h : f_X15_next x0 M = some z) (hz : P z) : Sem g d YX15_next 0 [(1, x0)] [] M o := by
  delta f_X15_next at h
  refine S_aload_n (i := 0) dX15_next_0 rfl rfl ?_
  refine S_iconst dX15_next_1 rfl ?_
  refine S_iconst dX15_next_2 rfl ?_
  refine P_invVp 1 [(0, 0), (0, 1)] [] CVX15_first MLX15_73 dX15_next_3 rfl rfl rfl rfl rfl (by omega) h (fun r h => F_X15_first (by omega) h) (fun v1 h => ?_)
  obtain rfl := r0 _ (some_P (P := fun r => P r) h hz)
  exact S_areturn dX15_next_6 ⟨_, rfl, Or.inl ⟨_, rfl⟩⟩
theorem F_X15_next {g : GG} {d : Nat} (hD : 2 ≤ d) {x0 : Int} {M : MM} {r : Int} (h : f_X15_next x0 M = some r) : Sem g d YX15_next 0 (ini YX15_next [(1, x0)]) [] M ((1, r), M) := by
  change Sem g d YX15_next 0 [(1, x0)] [] M ((1, r), M)
  exact s_X15_next_0 hD (P := fun x => x = r) (fun q e => by rw [e]) h rfl
/-! PeerSearch$Work.askNext()Z -/
theorem dX11_askNext_0 : decode cX11_askNext 0 = .ok (.aload_n 0, 1) := by decide +kernel
theorem dX11_askNext_1 : decode cX11_askNext 1 = .ok (.getfield 47, 3) := by decide +kernel
theorem dX11_askNext_4 : decode cX11_askNext 4 = .ok (.invokevirtual 153, 3) := by decide +kernel
theorem dX11_askNext_7 : decode cX11_askNext 7 = .ok (.astore_n 1, 1) := by decide +kernel
theorem dX11_askNext_8 : decode cX11_askNext 8 = .ok (.aload_n 1, 1) := by decide +kernel
theorem dX11_askNext_9 : decode cX11_askNext 9 = .ok (.ifnonnull 5, 3) := by decide +kernel
theorem dX11_askNext_12 : decode cX11_askNext 12 = .ok (.iconst 0, 1) := by decide +kernel
theorem dX11_askNext_13 : decode cX11_askNext 13 = .ok (.ireturn, 1) := by decide +kernel
theorem dX11_askNext_14 : decode cX11_askNext 14 = .ok (.aload_n 0, 1) := by decide +kernel
theorem dX11_askNext_15 : decode cX11_askNext 15 = .ok (.getfield 67, 3) := by decide +kernel
theorem dX11_askNext_18 : decode cX11_askNext 18 = .ok (.aload_n 0, 1) := by decide +kernel
theorem dX11_askNext_19 : decode cX11_askNext 19 = .ok (.getfield 47, 3) := by decide +kernel
theorem dX11_askNext_22 : decode cX11_askNext 22 = .ok (.getfield 157, 3) := by decide +kernel
theorem dX11_askNext_25 : decode cX11_askNext 25 = .ok (.ifCond .eq 7, 3) := by decide +kernel
theorem dX11_askNext_28 : decode cX11_askNext 28 = .ok (.iconst 5, 1) := by decide +kernel
theorem dX11_askNext_29 : decode cX11_askNext 29 = .ok (.goto 4, 3) := by decide +kernel
theorem dX11_askNext_32 : decode cX11_askNext 32 = .ok (.iconst 3, 1) := by decide +kernel
theorem dX11_askNext_33 : decode cX11_askNext 33 = .ok (.invokevirtual 160, 3) := by decide +kernel
theorem dX11_askNext_36 : decode cX11_askNext 36 = .ok (.astore_n 2, 1) := by decide +kernel
theorem dX11_askNext_37 : decode cX11_askNext 37 = .ok (.aload_n 2, 1) := by decide +kernel
theorem dX11_askNext_38 : decode cX11_askNext 38 = .ok (.aload_n 0, 1) := by decide +kernel
theorem dX11_askNext_39 : decode cX11_askNext 39 = .ok (.getfield 47, 3) := by decide +kernel
theorem dX11_askNext_42 : decode cX11_askNext 42 = .ok (.getfield 163, 3) := by decide +kernel
theorem dX11_askNext_45 : decode cX11_askNext 45 = .ok (.invokevirtual 164, 3) := by decide +kernel
theorem dX11_askNext_48 : decode cX11_askNext 48 = .ok (.aload_n 0, 1) := by decide +kernel
theorem dX11_askNext_49 : decode cX11_askNext 49 = .ok (.aload_n 1, 1) := by decide +kernel
theorem dX11_askNext_50 : decode cX11_askNext 50 = .ok (.getfield 170, 3) := by decide +kernel
theorem dX11_askNext_53 : decode cX11_askNext 53 = .ok (.aload_n 1, 1) := by decide +kernel
theorem dX11_askNext_54 : decode cX11_askNext 54 = .ok (.getfield 171, 3) := by decide +kernel
theorem dX11_askNext_57 : decode cX11_askNext 57 = .ok (.iconst 0, 1) := by decide +kernel
theorem dX11_askNext_58 : decode cX11_askNext 58 = .ok (.invokevirtual 172, 3) := by decide +kernel
theorem dX11_askNext_61 : decode cX11_askNext 61 = .ok (.istore_n 3, 1) := by decide +kernel
theorem dX11_askNext_62 : decode cX11_askNext 62 = .ok (.aload_n 1, 1) := by decide +kernel
theorem dX11_askNext_63 : decode cX11_askNext 63 = .ok (.iload_n 3, 1) := by decide +kernel
theorem dX11_askNext_64 : decode cX11_askNext 64 = .ok (.ifCond .eq 7, 3) := by decide +kernel
theorem dX11_askNext_67 : decode cX11_askNext 67 = .ok (.iconst 1, 1) := by decide +kernel
theorem dX11_askNext_68 : decode cX11_askNext 68 = .ok (.goto 4, 3) := by decide +kernel
theorem dX11_askNext_71 : decode cX11_askNext 71 = .ok (.iconst 3, 1) := by decide +kernel
theorem dX11_askNext_72 : decode cX11_askNext 72 = .ok (.putfield 176, 3) := by decide +kernel
theorem dX11_askNext_75 : decode cX11_askNext 75 = .ok (.aload_n 0, 1) := by decide +kernel
theorem dX11_askNext_76 : decode cX11_askNext 76 = .ok (.getfield 47, 3) := by decide +kernel
theorem dX11_askNext_79 : decode cX11_askNext 79 = .ok (.dup, 1) := by decide +kernel
theorem dX11_askNext_80 : decode cX11_askNext 80 = .ok (.getfield 144, 3) := by decide +kernel
theorem dX11_askNext_83 : decode cX11_askNext 83 = .ok (.iload_n 3, 1) := by decide +kernel
theorem dX11_askNext_84 : decode cX11_askNext 84 = .ok (.ifCond .eq 7, 3) := by decide +kernel
theorem dX11_askNext_87 : decode cX11_askNext 87 = .ok (.iconst 1, 1) := by decide +kernel
theorem dX11_askNext_88 : decode cX11_askNext 88 = .ok (.goto 4, 3) := by decide +kernel
theorem dX11_askNext_91 : decode cX11_askNext 91 = .ok (.iconst 0, 1) := by decide +kernel
theorem dX11_askNext_92 : decode cX11_askNext 92 = .ok (.iadd, 1) := by decide +kernel
theorem dX11_askNext_93 : decode cX11_askNext 93 = .ok (.putfield 144, 3) := by decide +kernel
theorem dX11_askNext_96 : decode cX11_askNext 96 = .ok (.iconst 1, 1) := by decide +kernel
theorem dX11_askNext_97 : decode cX11_askNext 97 = .ok (.ireturn, 1) := by decide +kernel
def j_X11_askNext_92 (y0 y1 y2 : Int) (M : MM) : Option (Int × MM) :=
  (pfi 15 4 y0 (y1 + y2) M).bind fun M1 =>
  some (1, M1)
def j_X11_askNext_72 (x0 x3 y0 y1 : Int) (M : MM) : Option (Int × MM) :=
  (pfi 27 2 y0 y1 M).bind fun M1 =>
  (gfr 11 1 x0 M1).bind fun v1 =>
  (gfi 15 4 v1 M1).bind fun v2 =>
  if w32 x3 = 0 then
    j_X11_askNext_92 v1 v2 0 M1
  else
    j_X11_askNext_92 v1 v2 1 M1
def j_X11_askNext_33 (x0 x1 y0 y1 : Int) (M : MM) : Option (Int × MM) :=
  ck 17 y0 M <| (f_X17_begin y0 y1 M).bind fun r1 =>
  (gfr 11 1 x0 r1.2).bind fun v1 =>
  (gfr 15 1 v1 r1.2).bind fun v2 =>
  ck 4 r1.1 r1.2 <| (f_X4_putKey r1.1 v2 r1.2).bind fun M1 =>
  (gfr 27 0 x1 M1).bind fun v3 =>
  (gfi 27 1 x1 M1).bind fun v4 =>
  ck 11 x0 M1 <| (f_X11_ask_2 x0 v3 v4 0 M1).bind fun r2 =>
  if w32 r2.1 = 0 then
    j_X11_askNext_72 x0 r2.1 x1 3 r2.2
  else
    j_X11_askNext_72 x0 r2.1 x1 1 r2.2
def f_X11_askNext (x0 : Int) (M : MM) : Option (Int × MM) :=
  (gfr 11 1 x0 M).bind fun v1 =>
  ck 15 v1 M <| (f_X15_next v1 M).bind fun v2 =>
  if v2 = -1 then
    some (0, M)
  else
    (gfr 11 2 x0 M).bind fun v3 =>
    (gfr 11 1 x0 M).bind fun v4 =>
    (gfi 15 5 v4 M).bind fun v5 =>
    if w32 v5 = 0 then
      j_X11_askNext_33 x0 v2 v3 3 M
    else
      j_X11_askNext_33 x0 v2 v3 5 M
theorem s_X11_askNext_92 {g : GG} {d : Nat} (hD : 9 ≤ d) {y0 y1 y2 : Int} {M : MM} {o : AV × MM} {P : (Int × MM) → Prop} (r0 : ∀ r : Int × MM, P r → o = ((0, r.1), r.2)) {z : Int × MM} (h : j_X11_askNext_92 y0 y1 y2 M = some z) (hz : P z) : Sem g d YX11_askNext 92 [(9, 0), (9, 0), (9, 0), (9, 0)] [(0, y2), (0, y1), (1, y0)] M o := by
  delta j_X11_askNext_92 at h
  refine S_iadd dX11_askNext_92 ?_
  refine P_pfi FLX11_144 FPX11_144 rfl dX11_askNext_93 h (fun M1 h => ?_)
  refine S_iconst dX11_askNext_96 rfl ?_
  obtain rfl := r0 _ (some_P (P := fun r => P r) h hz)
  exact P_ret dX11_askNext_97 rfl (Or.inr ⟨rfl, Or.inr rfl⟩)
theorem s_X11_askNext_72 {g : GG} {d : Nat} (hD : 9 ≤ d) {x0 x3 y0 y1 : Int} {M : MM} {o : AV × MM} {P : (Int × MM) → Prop} (r0 : ∀ r : Int × MM, P r → o = ((0, r.1), r.2)) {z : Int × MM} (h : j_X11_askNext_72 x0 x3 y0 y1 M = some z) (hz : P z) : Sem g d YX11_askNext 72 [(1, x0), (9, 0), (9, 0), (0, x3)] [(0, y1), (1, y0)] M o := by
  delta j_X11_askNext_72 at h
  refine P_pfi FLX11_176 FPX11_176 rfl dX11_askNext_72 h (fun M1 h => ?_)
  refine S_aload_n (i := 0) dX11_askNext_75 rfl rfl ?_
  refine P_gfr FLX11_47 rfl dX11_askNext_76 h (fun v1 h => ?_)
  refine S_dup dX11_askNext_79 (Nat.le_of_ble_eq_true rfl) ?_
  refine P_gfi FLX11_144 rfl dX11_askNext_80 h (fun v2 h => ?_)
  refine S_iload_n (i := 3) dX11_askNext_83 rfl rfl ?_
  refine P_if_eq (tgt := 91) dX11_askNext_84 rfl h (fun h => ?_) (fun h => ?_)
  · refine S_iconst dX11_askNext_91 rfl ?_
    refine S_weak (ls' := [(9, 0), (9, 0), (9, 0), (9, 0)]) ⟨Or.inl rfl, ⟨Or.inl rfl, ⟨Or.inl rfl, ⟨Or.inl rfl, trivial⟩⟩⟩⟩ ?_
    exact s_X11_askNext_92 hD r0 h hz
  · refine S_iconst dX11_askNext_87 rfl ?_
    refine S_goto (tgt := 92) dX11_askNext_88 rfl ?_
    refine S_weak (ls' := [(9, 0), (9, 0), (9, 0), (9, 0)]) ⟨Or.inl rfl, ⟨Or.inl rfl, ⟨Or.inl rfl, ⟨Or.inl rfl, trivial⟩⟩⟩⟩ ?_
    exact s_X11_askNext_92 hD r0 h hz
theorem s_X11_askNext_33 {g : GG} {d : Nat} (hD : 9 ≤ d) {x0 x1 y0 y1 : Int} {M : MM} {o : AV × MM} {P : (Int × MM) → Prop} (r0 : ∀ r : Int × MM, P r → o = ((0, r.1), r.2)) {z : Int × MM} (h : j_X11_askNext_33 x0 x1 y0 y1 M = some z) (hz : P z) : Sem g d YX11_askNext 33 [(1, x0), (1, x1), (9, 0), (9, 0)] [(0, y1), (1, y0)] M o := by
  delta j_X11_askNext_33 at h
  refine P_invVe 1 [(0, y1)] [] CVX17_begin MLX11_160 dX11_askNext_33 rfl rfl rfl rfl rfl (by omega) h (fun r h => F_X17_begin (by omega) h) (fun r1 h => ?_)
  refine S_astore_n (i := 2) dX11_askNext_36 rfl (Nat.le_of_ble_eq_true rfl) rfl rfl ?_
  change Sem g d YX11_askNext 37 [(1, x0), (1, x1), (1, r1.1), (9, 0)] [] r1.2 o
  refine S_aload_n (i := 2) dX11_askNext_37 rfl rfl ?_
  refine S_aload_n (i := 0) dX11_askNext_38 rfl rfl ?_
  refine P_gfr FLX11_47 rfl dX11_askNext_39 h (fun v1 h => ?_)
  refine P_gfr FLX11_163 rfl dX11_askNext_42 h (fun v2 h => ?_)
  refine P_invVm' [(1, v2)] [] CVX4_putKey MLX11_164 dX11_askNext_45 rfl rfl rfl rfl (by omega) h (fun r h => F_X4_putKey (by omega) h) (fun M1 h => ?_)
  refine S_aload_n (i := 0) dX11_askNext_48 rfl rfl ?_
  refine S_aload_n (i := 1) dX11_askNext_49 rfl rfl ?_
  refine P_gfr FLX11_170 rfl dX11_askNext_50 h (fun v3 h => ?_)
  refine S_aload_n (i := 1) dX11_askNext_53 rfl rfl ?_
  refine P_gfi FLX11_171 rfl dX11_askNext_54 h (fun v4 h => ?_)
  refine S_iconst dX11_askNext_57 rfl ?_
  refine P_invVe 0 [(1, v3), (0, v4), (0, 0)] [] CVX11_ask_2 MLX11_172 dX11_askNext_58 rfl rfl rfl rfl rfl (by omega) h (fun r h => F_X11_ask_2 (by omega) h) (fun r2 h => ?_)
  refine S_istore_n (i := 3) dX11_askNext_61 rfl (Nat.le_of_ble_eq_true rfl) rfl rfl ?_
  change Sem g d YX11_askNext 62 [(1, x0), (1, x1), (1, r1.1), (0, r2.1)] [] r2.2 o
  refine S_aload_n (i := 1) dX11_askNext_62 rfl rfl ?_
  refine S_iload_n (i := 3) dX11_askNext_63 rfl rfl ?_
  refine P_if_eq (tgt := 71) dX11_askNext_64 rfl h (fun h => ?_) (fun h => ?_)
  · refine S_iconst dX11_askNext_71 rfl ?_
    refine S_weak (ls' := [(1, x0), (9, 0), (9, 0), (0, r2.1)]) ⟨Or.inr rfl, ⟨Or.inl rfl, ⟨Or.inl rfl, ⟨Or.inr rfl, trivial⟩⟩⟩⟩ ?_
    exact s_X11_askNext_72 hD r0 h hz
  · refine S_iconst dX11_askNext_67 rfl ?_
    refine S_goto (tgt := 72) dX11_askNext_68 rfl ?_
    refine S_weak (ls' := [(1, x0), (9, 0), (9, 0), (0, r2.1)]) ⟨Or.inr rfl, ⟨Or.inl rfl, ⟨Or.inl rfl, ⟨Or.inr rfl, trivial⟩⟩⟩⟩ ?_
    exact s_X11_askNext_72 hD r0 h hz
theorem s_X11_askNext_0 {g : GG} {d : Nat} (hD : 9 ≤ d) {x0 : Int} {M : MM} {o : AV × MM} {P : (Int × MM) → Prop} (r0 : ∀ r : Int × MM, P r → o = ((0, r.1), r.2)) {z : Int × MM} (h : f_X11_askNext x0 M = some z) (hz : P z) : Sem g d YX11_askNext 0 [(1, x0), (9, 0), (9, 0), (9, 0)] [] M o := by
  delta f_X11_askNext at h
  refine S_aload_n (i := 0) dX11_askNext_0 rfl rfl ?_
  refine P_gfr FLX11_47 rfl dX11_askNext_1 h (fun v1 h => ?_)
  refine P_invVp 1 [] [] CVX15_next MLX11_153 dX11_askNext_4 rfl rfl rfl rfl rfl (by omega) h (fun r h => F_X15_next (by omega) h) (fun v2 h => ?_)
  refine S_astore_n (i := 1) dX11_askNext_7 rfl (Nat.le_of_ble_eq_true rfl) rfl rfl ?_
  change Sem g d YX11_askNext 8 [(1, x0), (1, v2), (9, 0), (9, 0)] [] M o
  refine S_aload_n (i := 1) dX11_askNext_8 rfl rfl ?_
  refine P_ifnonnull (tgt := 14) dX11_askNext_9 rfl h (fun h => ?_) (fun h => ?_)
  · refine S_aload_n (i := 0) dX11_askNext_14 rfl rfl ?_
    refine P_gfr FLX11_67 rfl dX11_askNext_15 h (fun v3 h => ?_)
    refine S_aload_n (i := 0) dX11_askNext_18 rfl rfl ?_
    refine P_gfr FLX11_47 rfl dX11_askNext_19 h (fun v4 h => ?_)
    refine P_gfi FLX11_157 rfl dX11_askNext_22 h (fun v5 h => ?_)
    refine P_if_eq (tgt := 32) dX11_askNext_25 rfl h (fun h => ?_) (fun h => ?_)
    · refine S_iconst dX11_askNext_32 rfl ?_
      exact s_X11_askNext_33 hD r0 h hz
    · refine S_iconst dX11_askNext_28 rfl ?_
      refine S_goto (tgt := 33) dX11_askNext_29 rfl ?_
      exact s_X11_askNext_33 hD r0 h hz
  · refine S_iconst dX11_askNext_12 rfl ?_
    obtain rfl := r0 _ (some_P (P := fun r => P r) h hz)
    exact P_ret dX11_askNext_13 rfl (Or.inr ⟨rfl, Or.inl rfl⟩)
theorem F_X11_askNext {g : GG} {d : Nat} (hD : 9 ≤ d) {x0 : Int} {M : MM} {r : Int × MM} (h : f_X11_askNext x0 M = some r) : Sem g d YX11_askNext 0 (ini YX11_askNext [(1, x0)]) [] M ((0, r.1), r.2) := by
  change Sem g d YX11_askNext 0 [(1, x0), (9, 0), (9, 0), (9, 0)] [] M ((0, r.1), r.2)
  exact s_X11_askNext_0 hD (P := fun x => x = r) (fun q e => by rw [e]) h rfl
/-! PeerSearch$Work.goOn()V -/
theorem dX11_goOn_0 : decode cX11_goOn 0 = .ok (.iconst 1, 1) := by decide +kernel
theorem dX11_goOn_1 : decode cX11_goOn 1 = .ok (.istore_n 1, 1) := by decide +kernel
theorem dX11_goOn_2 : decode cX11_goOn 2 = .ok (.iload_n 1, 1) := by decide +kernel
theorem dX11_goOn_3 : decode cX11_goOn 3 = .ok (.ifCond .eq 68, 3) := by decide +kernel
theorem dX11_goOn_6 : decode cX11_goOn 6 = .ok (.aload_n 0, 1) := by decide +kernel
theorem dX11_goOn_7 : decode cX11_goOn 7 = .ok (.getfield 47, 3) := by decide +kernel
theorem dX11_goOn_10 : decode cX11_goOn 10 = .ok (.invokevirtual 137, 3) := by decide +kernel
theorem dX11_goOn_13 : decode cX11_goOn 13 = .ok (.ifCond .eq 25, 3) := by decide +kernel
theorem dX11_goOn_16 : decode cX11_goOn 16 = .ok (.aload_n 0, 1) := by decide +kernel
theorem dX11_goOn_17 : decode cX11_goOn 17 = .ok (.dup, 1) := by decide +kernel
theorem dX11_goOn_18 : decode cX11_goOn 18 = .ok (.getfield 83, 3) := by decide +kernel
theorem dX11_goOn_21 : decode cX11_goOn 21 = .ok (.iconst 1, 1) := by decide +kernel
theorem dX11_goOn_22 : decode cX11_goOn 22 = .ok (.iadd, 1) := by decide +kernel
theorem dX11_goOn_23 : decode cX11_goOn 23 = .ok (.putfield 83, 3) := by decide +kernel
theorem dX11_goOn_26 : decode cX11_goOn 26 = .ok (.aload_n 0, 1) := by decide +kernel
theorem dX11_goOn_27 : decode cX11_goOn 27 = .ok (.getfield 71, 3) := by decide +kernel
theorem dX11_goOn_30 : decode cX11_goOn 30 = .ok (.aload_n 0, 1) := by decide +kernel
theorem dX11_goOn_31 : decode cX11_goOn 31 = .ok (.invokevirtual 141, 3) := by decide +kernel
theorem dX11_goOn_34 : decode cX11_goOn 34 = .ok (.istore_n 1, 1) := by decide +kernel
theorem dX11_goOn_35 : decode cX11_goOn 35 = .ok (.goto (-33), 3) := by decide +kernel
theorem dX11_goOn_38 : decode cX11_goOn 38 = .ok (.aload_n 0, 1) := by decide +kernel
theorem dX11_goOn_39 : decode cX11_goOn 39 = .ok (.getfield 47, 3) := by decide +kernel
theorem dX11_goOn_42 : decode cX11_goOn 42 = .ok (.getfield 144, 3) := by decide +kernel
theorem dX11_goOn_45 : decode cX11_goOn 45 = .ok (.aload_n 0, 1) := by decide +kernel
theorem dX11_goOn_46 : decode cX11_goOn 46 = .ok (.getfield 32, 3) := by decide +kernel
theorem dX11_goOn_49 : decode cX11_goOn 49 = .ok (.getfield 147, 3) := by decide +kernel
theorem dX11_goOn_52 : decode cX11_goOn 52 = .ok (.if_icmp .ge 14, 3) := by decide +kernel
theorem dX11_goOn_55 : decode cX11_goOn 55 = .ok (.aload_n 0, 1) := by decide +kernel
theorem dX11_goOn_56 : decode cX11_goOn 56 = .ok (.invokevirtual 150, 3) := by decide +kernel
theorem dX11_goOn_59 : decode cX11_goOn 59 = .ok (.ifCond .eq 7, 3) := by decide +kernel
theorem dX11_goOn_62 : decode cX11_goOn 62 = .ok (.iconst 1, 1) := by decide +kernel
theorem dX11_goOn_63 : decode cX11_goOn 63 = .ok (.goto 4, 3) := by decide +kernel
theorem dX11_goOn_66 : decode cX11_goOn 66 = .ok (.iconst 0, 1) := by decide +kernel
theorem dX11_goOn_67 : decode cX11_goOn 67 = .ok (.istore_n 1, 1) := by decide +kernel
theorem dX11_goOn_68 : decode cX11_goOn 68 = .ok (.goto (-66), 3) := by decide +kernel
theorem dX11_goOn_71 : decode cX11_goOn 71 = .ok (.return_, 1) := by decide +kernel
def j_X11_goOn_67 (x0 y0 : Int) (M : MM) : Option ((Int × MM) ⊕ (MM)) :=
  cnt (y0, M)
def j_X11_goOn_66 (x0 : Int) (M : MM) : Option ((Int × MM) ⊕ (MM)) :=
  j_X11_goOn_67 x0 0 M
def j_X11_goOn_34 (x0 y0 : Int) (M : MM) : Option ((Int × MM) ⊕ (MM)) :=
  cnt (y0, M)
def b_X11_goOn_2 (x0 x1 : Int) (M : MM) : Option ((Int × MM) ⊕ (MM)) :=
  if w32 x1 = 0 then
    xit (some M)
  else
    (gfr 11 1 x0 M).bind fun v1 =>
    ck 15 v1 M <| (f_X15_isOver v1 M).bind fun v2 =>
    if w32 v2 = 0 then
      (gfr 11 1 x0 M).bind fun v3 =>
      (gfi 15 4 v3 M).bind fun v4 =>
      (gfr 11 0 x0 M).bind fun v5 =>
      (gfi 6 1 v5 M).bind fun v6 =>
      if w32 v4 < w32 v6 then
        ck 11 x0 M <| (f_X11_askNext x0 M).bind fun r1 =>
        if w32 r1.1 = 0 then
          j_X11_goOn_66 x0 r1.2
        else
          j_X11_goOn_67 x0 1 r1.2
      else
        j_X11_goOn_66 x0 M
    else
      (gfi 11 5 x0 M).bind fun v7 =>
      (pfi 11 5 x0 (v7 + 1) M).bind fun M1 =>
      (gfr 11 3 x0 M1).bind fun v8 =>
      ckE 13 v8 M1 (Option.bind (f_X13_looked v8 x0 M1) fun r => j_X11_goOn_34 x0 r.1 r.2) (ckE 14 v8 M1 (Option.bind (f_X14_looked v8 x0 M1) fun r => j_X11_goOn_34 x0 r.1 r.2) (ckE 30 v8 M1 (Option.bind (f_X30_looked v8 x0 M1) fun r => j_X11_goOn_34 x0 r.1 r.2) (ckE 31 v8 M1 (Option.bind (f_X31_looked v8 x0 M1) fun r => j_X11_goOn_34 x0 r.1 r.2) (none))))
def l_X11_goOn_2 (x0 x1 : Int) (M : MM) : Option (MM) := lpN (fun s : Int × MM => b_X11_goOn_2 x0 s.1 s.2) FU (x1, M)
def f_X11_goOn (x0 : Int) (M : MM) : Option (MM) :=
  l_X11_goOn_2 x0 1 M
theorem s_X11_goOn_67 {g : GG} {d : Nat} (hD : 212 ≤ d) {x0 y0 : Int} {M : MM} {o : AV × MM} {P : ((Int × MM) ⊕ (MM)) → Prop} (c0 : ∀ s : Int × MM, P (.inl s) → Sem g d YX11_goOn 2 [(1, x0), (0, s.1)] [] s.2 o) (r0 : ∀ r : MM, P (.inr r) → o = ((9, 0), r)) {z : (Int × MM) ⊕ (MM)} (h : j_X11_goOn_67 x0 y0 M = some z) (hz : P z) : Sem g d YX11_goOn 67 [(1, x0), (9, 0)] [(0, y0)] M o := by
  delta j_X11_goOn_67 at h
  refine S_istore_n (i := 1) dX11_goOn_67 rfl (Nat.le_of_ble_eq_true rfl) rfl rfl ?_
  change Sem g d YX11_goOn 68 [(1, x0), (0, y0)] [] M o
  refine S_goto (tgt := 2) dX11_goOn_68 rfl ?_
  exact c0 (y0, M) (some_P (P := fun r => P r) h hz)
theorem s_X11_goOn_66 {g : GG} {d : Nat} (hD : 212 ≤ d) {x0 : Int} {M : MM} {o : AV × MM} {P : ((Int × MM) ⊕ (MM)) → Prop} (c0 : ∀ s : Int × MM, P (.inl s) → Sem g d YX11_goOn 2 [(1, x0), (0, s.1)] [] s.2 o) (r0 : ∀ r : MM, P (.inr r) → o = ((9, 0), r)) {z : (Int × MM) ⊕ (MM)} (h : j_X11_goOn_66 x0 M = some z) (hz : P z) : Sem g d YX11_goOn 66 [(1, x0), (9, 0)] [] M o := by
  delta j_X11_goOn_66 at h
  refine S_iconst dX11_goOn_66 rfl ?_
  exact s_X11_goOn_67 hD c0 r0 h hz
theorem s_X11_goOn_34 {g : GG} {d : Nat} (hD : 212 ≤ d) {x0 y0 : Int} {M : MM} {o : AV × MM} {P : ((Int × MM) ⊕ (MM)) → Prop} (c0 : ∀ s : Int × MM, P (.inl s) → Sem g d YX11_goOn 2 [(1, x0), (0, s.1)] [] s.2 o) (r0 : ∀ r : MM, P (.inr r) → o = ((9, 0), r)) {z : (Int × MM) ⊕ (MM)} (h : j_X11_goOn_34 x0 y0 M = some z) (hz : P z) : Sem g d YX11_goOn 34 [(1, x0), (9, 0)] [(0, y0)] M o := by
  delta j_X11_goOn_34 at h
  refine S_istore_n (i := 1) dX11_goOn_34 rfl (Nat.le_of_ble_eq_true rfl) rfl rfl ?_
  change Sem g d YX11_goOn 35 [(1, x0), (0, y0)] [] M o
  refine S_goto (tgt := 2) dX11_goOn_35 rfl ?_
  exact c0 (y0, M) (some_P (P := fun r => P r) h hz)
theorem s_X11_goOn_2 {g : GG} {d : Nat} (hD : 212 ≤ d) {x0 x1 : Int} {M : MM} {o : AV × MM} {P : ((Int × MM) ⊕ (MM)) → Prop} (c0 : ∀ s : Int × MM, P (.inl s) → Sem g d YX11_goOn 2 [(1, x0), (0, s.1)] [] s.2 o) (r0 : ∀ r : MM, P (.inr r) → o = ((9, 0), r)) {z : (Int × MM) ⊕ (MM)} (h : b_X11_goOn_2 x0 x1 M = some z) (hz : P z) : Sem g d YX11_goOn 2 [(1, x0), (0, x1)] [] M o := by
  delta b_X11_goOn_2 at h
  refine S_iload_n (i := 1) dX11_goOn_2 rfl rfl ?_
  refine P_if_eq (tgt := 71) dX11_goOn_3 rfl h (fun h => ?_) (fun h => ?_)
  · obtain ⟨z0, h, hz⟩ := xit_some' (P := fun r => P r) h hz
    obtain rfl := r0 _ (some_P (P := fun r => P (.inr r)) h hz)
    exact S_return dX11_goOn_71 rfl
  · refine S_aload_n (i := 0) dX11_goOn_6 rfl rfl ?_
    refine P_gfr FLX11_47 rfl dX11_goOn_7 h (fun v1 h => ?_)
    refine P_invVp 0 [] [] CVX15_isOver MLX11_137 dX11_goOn_10 rfl rfl rfl rfl rfl (by omega) h (fun r h => F_X15_isOver (by omega) h) (fun v2 h => ?_)
    refine P_if_eq (tgt := 38) dX11_goOn_13 rfl h (fun h => ?_) (fun h => ?_)
    · refine S_aload_n (i := 0) dX11_goOn_38 rfl rfl ?_
      refine P_gfr FLX11_47 rfl dX11_goOn_39 h (fun v3 h => ?_)
      refine P_gfi FLX11_144 rfl dX11_goOn_42 h (fun v4 h => ?_)
      refine S_aload_n (i := 0) dX11_goOn_45 rfl rfl ?_
      refine P_gfr FLX11_32 rfl dX11_goOn_46 h (fun v5 h => ?_)
      refine P_gfi FLX11_147 rfl dX11_goOn_49 h (fun v6 h => ?_)
      refine P_icmp_ge (tgt := 66) dX11_goOn_52 rfl h (fun h => ?_) (fun h => ?_)
      · refine S_weak (ls' := [(1, x0), (9, 0)]) ⟨Or.inr rfl, ⟨Or.inl rfl, trivial⟩⟩ ?_
        exact s_X11_goOn_66 hD c0 r0 h hz
      · refine S_aload_n (i := 0) dX11_goOn_55 rfl rfl ?_
        refine P_invVe 0 [] [] CVX11_askNext MLX11_150 dX11_goOn_56 rfl rfl rfl rfl rfl (by omega) h (fun r h => F_X11_askNext (by omega) h) (fun r1 h => ?_)
        refine P_if_eq (tgt := 66) dX11_goOn_59 rfl h (fun h => ?_) (fun h => ?_)
        · refine S_weak (ls' := [(1, x0), (9, 0)]) ⟨Or.inr rfl, ⟨Or.inl rfl, trivial⟩⟩ ?_
          exact s_X11_goOn_66 hD c0 r0 h hz
        · refine S_iconst dX11_goOn_62 rfl ?_
          refine S_goto (tgt := 67) dX11_goOn_63 rfl ?_
          refine S_weak (ls' := [(1, x0), (9, 0)]) ⟨Or.inr rfl, ⟨Or.inl rfl, trivial⟩⟩ ?_
          exact s_X11_goOn_67 hD c0 r0 h hz
    · refine S_aload_n (i := 0) dX11_goOn_16 rfl rfl ?_
      refine S_dup dX11_goOn_17 (Nat.le_of_ble_eq_true rfl) ?_
      refine P_gfi FLX11_83 rfl dX11_goOn_18 h (fun v7 h => ?_)
      refine S_iconst dX11_goOn_21 rfl ?_
      refine S_iadd dX11_goOn_22 ?_
      refine P_pfi FLX11_83 FPX11_83 rfl dX11_goOn_23 h (fun M1 h => ?_)
      refine S_aload_n (i := 0) dX11_goOn_26 rfl rfl ?_
      refine P_gfr FLX11_71 rfl dX11_goOn_27 h (fun v8 h => ?_)
      refine S_aload_n (i := 0) dX11_goOn_30 rfl rfl ?_
      rcases ckE_some h with h | h
      · refine P_invPe 0 [(1, x0)] [] CPX13_looked q1372 dX11_goOn_31 rfl rfl rfl rfl rfl (by omega) h (fun r h => F_X13_looked (by omega) h) (fun r h => ?_)
        refine S_weak (ls' := [(1, x0), (9, 0)]) ⟨Or.inr rfl, ⟨Or.inl rfl, trivial⟩⟩ ?_
        exact s_X11_goOn_34 hD c0 r0 h hz
      rcases ckE_some h with h | h
      · refine P_invPe 0 [(1, x0)] [] CPX14_looked q1372 dX11_goOn_31 rfl rfl rfl rfl rfl (by omega) h (fun r h => F_X14_looked (by omega) h) (fun r h => ?_)
        refine S_weak (ls' := [(1, x0), (9, 0)]) ⟨Or.inr rfl, ⟨Or.inl rfl, trivial⟩⟩ ?_
        exact s_X11_goOn_34 hD c0 r0 h hz
      rcases ckE_some h with h | h
      · refine P_invPe 0 [(1, x0)] [] CPX30_looked q1372 dX11_goOn_31 rfl rfl rfl rfl rfl (by omega) h (fun r h => F_X30_looked (by omega) h) (fun r h => ?_)
        refine S_weak (ls' := [(1, x0), (9, 0)]) ⟨Or.inr rfl, ⟨Or.inl rfl, trivial⟩⟩ ?_
        exact s_X11_goOn_34 hD c0 r0 h hz
      rcases ckE_some h with h | h
      · refine P_invPe 0 [(1, x0)] [] CPX31_looked q1372 dX11_goOn_31 rfl rfl rfl rfl rfl (by omega) h (fun r h => F_X31_looked (by omega) h) (fun r h => ?_)
        refine S_weak (ls' := [(1, x0), (9, 0)]) ⟨Or.inr rfl, ⟨Or.inl rfl, trivial⟩⟩ ?_
        exact s_X11_goOn_34 hD c0 r0 h hz
      cases h
theorem sl_X11_goOn_2 {g : GG} {d : Nat} (hD : 212 ≤ d) {x0 x1 : Int} {M : MM} {o : AV × MM} {P : (MM) → Prop} (r0 : ∀ r : MM, P r → o = ((9, 0), r)) {z : MM} (h : l_X11_goOn_2 x0 x1 M = some z) (hz : P z) : Sem g d YX11_goOn 2 [(1, x0), (0, x1)] [] M o := by
  refine lp_sound (S := fun s : Int × MM => Sem g d YX11_goOn 2 [(1, x0), (0, s.1)] [] s.2 o) (P := P) ?_ FU (x1, M) z h hz
  intro s x hx hP
  exact s_X11_goOn_2 hD (P := Sum.elim (fun s : Int × MM => Sem g d YX11_goOn 2 [(1, x0), (0, s.1)] [] s.2 o) P) (fun s h => h) (fun s h => r0 s h) hx hP
theorem s_X11_goOn_0 {g : GG} {d : Nat} (hD : 212 ≤ d) {x0 : Int} {M : MM} {o : AV × MM} {P : (MM) → Prop} (r0 : ∀ r : MM, P r → o = ((9, 0), r)) {z : MM} (h : f_X11_goOn x0 M = some z) (hz : P z) : Sem g d YX11_goOn 0 [(1, x0), (9, 0)] [] M o := by
  delta f_X11_goOn at h
  refine S_iconst dX11_goOn_0 rfl ?_
  refine S_istore_n (i := 1) dX11_goOn_1 rfl (Nat.le_of_ble_eq_true rfl) rfl rfl ?_
  change Sem g d YX11_goOn 2 [(1, x0), (0, 1)] [] M o
  exact sl_X11_goOn_2 hD r0 h hz
theorem F_X11_goOn {g : GG} {d : Nat} (hD : 212 ≤ d) {x0 : Int} {M : MM} {r : MM} (h : f_X11_goOn x0 M = some r) : Sem g d YX11_goOn 0 (ini YX11_goOn [(1, x0)]) [] M ((9, 0), r) := by
  change Sem g d YX11_goOn 0 [(1, x0), (9, 0)] [] M ((9, 0), r)
  exact s_X11_goOn_0 hD (P := fun x => x = r) (fun q e => by rw [e]) h rfl
/-! PeerSearch$Work.start(LPeerSearch$Peer;LPeerSearch$Plan;LPeerSearch$Task;)V -/
theorem dX11_start_0 : decode cX11_start 0 = .ok (.aload_n 0, 1) := by decide +kernel
theorem dX11_start_1 : decode cX11_start 1 = .ok (.aload_n 1, 1) := by decide +kernel
theorem dX11_start_2 : decode cX11_start 2 = .ok (.putfield 67, 3) := by decide +kernel
theorem dX11_start_5 : decode cX11_start 5 = .ok (.aload_n 0, 1) := by decide +kernel
theorem dX11_start_6 : decode cX11_start 6 = .ok (.aload_n 2, 1) := by decide +kernel
theorem dX11_start_7 : decode cX11_start 7 = .ok (.putfield 71, 3) := by decide +kernel
theorem dX11_start_10 : decode cX11_start 10 = .ok (.aload_n 0, 1) := by decide +kernel
theorem dX11_start_11 : decode cX11_start 11 = .ok (.aload_n 3, 1) := by decide +kernel
theorem dX11_start_12 : decode cX11_start 12 = .ok (.putfield 75, 3) := by decide +kernel
theorem dX11_start_15 : decode cX11_start 15 = .ok (.aload_n 0, 1) := by decide +kernel
theorem dX11_start_16 : decode cX11_start 16 = .ok (.iconst 1, 1) := by decide +kernel
theorem dX11_start_17 : decode cX11_start 17 = .ok (.putfield 79, 3) := by decide +kernel
theorem dX11_start_20 : decode cX11_start 20 = .ok (.aload_n 0, 1) := by decide +kernel
theorem dX11_start_21 : decode cX11_start 21 = .ok (.dup, 1) := by decide +kernel
theorem dX11_start_22 : decode cX11_start 22 = .ok (.getfield 83, 3) := by decide +kernel
theorem dX11_start_25 : decode cX11_start 25 = .ok (.iconst 1, 1) := by decide +kernel
theorem dX11_start_26 : decode cX11_start 26 = .ok (.iadd, 1) := by decide +kernel
theorem dX11_start_27 : decode cX11_start 27 = .ok (.putfield 83, 3) := by decide +kernel
theorem dX11_start_30 : decode cX11_start 30 = .ok (.aload_n 0, 1) := by decide +kernel
theorem dX11_start_31 : decode cX11_start 31 = .ok (.getfield 71, 3) := by decide +kernel
theorem dX11_start_34 : decode cX11_start 34 = .ok (.aload_n 0, 1) := by decide +kernel
theorem dX11_start_35 : decode cX11_start 35 = .ok (.invokevirtual 86, 3) := by decide +kernel
theorem dX11_start_38 : decode cX11_start 38 = .ok (.ifCond .eq 7, 3) := by decide +kernel
theorem dX11_start_41 : decode cX11_start 41 = .ok (.aload_n 0, 1) := by decide +kernel
theorem dX11_start_42 : decode cX11_start 42 = .ok (.invokevirtual 92, 3) := by decide +kernel
theorem dX11_start_45 : decode cX11_start 45 = .ok (.return_, 1) := by decide +kernel
def j_X11_start_45 (M : MM) : Option (MM) :=
  some M
def j_X11_start_38 (x0 y0 : Int) (M : MM) : Option (MM) :=
  if w32 y0 = 0 then
    j_X11_start_45 M
  else
    ck 11 x0 M <| (f_X11_goOn x0 M).bind fun M1 =>
    j_X11_start_45 M1
def f_X11_start (x0 x1 x2 x3 : Int) (M : MM) : Option (MM) :=
  (pfr 11 2 x0 x1 M).bind fun M1 =>
  (pfr 11 3 x0 x2 M1).bind fun M2 =>
  (pfr 11 4 x0 x3 M2).bind fun M3 =>
  (pfz 11 6 x0 1 M3).bind fun M4 =>
  (gfi 11 5 x0 M4).bind fun v1 =>
  (pfi 11 5 x0 (v1 + 1) M4).bind fun M5 =>
  (gfr 11 3 x0 M5).bind fun v2 =>
  ckE 13 v2 M5 (Option.bind (f_X13_begin v2 x0 M5) fun r => j_X11_start_38 x0 r.1 r.2) (ckE 14 v2 M5 (Option.bind (f_X14_begin v2 x0 M5) fun r => j_X11_start_38 x0 r.1 r.2) (ckE 30 v2 M5 (Option.bind (f_X30_begin v2 x0 M5) fun r => j_X11_start_38 x0 r.1 r.2) (ckE 31 v2 M5 (Option.bind (f_X31_begin v2 x0 M5) fun r => j_X11_start_38 x0 r.1 r.2) (none))))
theorem s_X11_start_45 {g : GG} {d : Nat} (hD : 213 ≤ d) {M : MM} {o : AV × MM} {P : (MM) → Prop} (r0 : ∀ r : MM, P r → o = ((9, 0), r)) {z : MM} (h : j_X11_start_45 M = some z) (hz : P z) : Sem g d YX11_start 45 [(9, 0), (9, 0), (9, 0), (9, 0)] [] M o := by
  delta j_X11_start_45 at h
  obtain rfl := r0 _ (some_P (P := fun r => P r) h hz)
  exact S_return dX11_start_45 rfl
theorem s_X11_start_38 {g : GG} {d : Nat} (hD : 213 ≤ d) {x0 y0 : Int} {M : MM} {o : AV × MM} {P : (MM) → Prop} (r0 : ∀ r : MM, P r → o = ((9, 0), r)) {z : MM} (h : j_X11_start_38 x0 y0 M = some z) (hz : P z) : Sem g d YX11_start 38 [(1, x0), (9, 0), (9, 0), (9, 0)] [(0, y0)] M o := by
  delta j_X11_start_38 at h
  refine P_if_eq (tgt := 45) dX11_start_38 rfl h (fun h => ?_) (fun h => ?_)
  · refine S_weak (ls' := [(9, 0), (9, 0), (9, 0), (9, 0)]) ⟨Or.inl rfl, ⟨Or.inl rfl, ⟨Or.inl rfl, ⟨Or.inl rfl, trivial⟩⟩⟩⟩ ?_
    exact s_X11_start_45 hD r0 h hz
  · refine S_aload_n (i := 0) dX11_start_41 rfl rfl ?_
    refine P_invVm' [] [] CVX11_goOn MLX11_92 dX11_start_42 rfl rfl rfl rfl (by omega) h (fun r h => F_X11_goOn (by omega) h) (fun M1 h => ?_)
    refine S_weak (ls' := [(9, 0), (9, 0), (9, 0), (9, 0)]) ⟨Or.inl rfl, ⟨Or.inl rfl, ⟨Or.inl rfl, ⟨Or.inl rfl, trivial⟩⟩⟩⟩ ?_
    exact s_X11_start_45 hD r0 h hz
theorem s_X11_start_0 {g : GG} {d : Nat} (hD : 213 ≤ d) {x0 x1 x2 x3 : Int} {M : MM} {o : AV × MM} {P : (MM) → Prop} (r0 : ∀ r : MM, P r → o = ((9, 0), r)) {z : MM} (h : f_X11_start x0 x1 x2 x3 M = some z) (hz : P z) : Sem g d YX11_start 0 [(1, x0), (1, x1), (1, x2), (1, x3)] [] M o := by
  delta f_X11_start at h
  refine S_aload_n (i := 0) dX11_start_0 rfl rfl ?_
  refine S_aload_n (i := 1) dX11_start_1 rfl rfl ?_
  refine P_pfr FLX11_67 FPX11_67 (Or.inl ⟨_, rfl⟩) rfl dX11_start_2 h (fun M1 h => ?_)
  refine S_aload_n (i := 0) dX11_start_5 rfl rfl ?_
  refine S_aload_n (i := 2) dX11_start_6 rfl rfl ?_
  refine P_pfr FLX11_71 FPX11_71 (Or.inl ⟨_, rfl⟩) rfl dX11_start_7 h (fun M2 h => ?_)
  refine S_aload_n (i := 0) dX11_start_10 rfl rfl ?_
  refine S_aload_n (i := 3) dX11_start_11 rfl rfl ?_
  refine P_pfr FLX11_75 FPX11_75 (Or.inl ⟨_, rfl⟩) rfl dX11_start_12 h (fun M3 h => ?_)
  refine S_aload_n (i := 0) dX11_start_15 rfl rfl ?_
  refine S_iconst dX11_start_16 rfl ?_
  refine P_pfz FLX11_79 FPX11_79 rfl dX11_start_17 h (fun M4 h => ?_)
  refine S_aload_n (i := 0) dX11_start_20 rfl rfl ?_
  refine S_dup dX11_start_21 (Nat.le_of_ble_eq_true rfl) ?_
  refine P_gfi FLX11_83 rfl dX11_start_22 h (fun v1 h => ?_)
  refine S_iconst dX11_start_25 rfl ?_
  refine S_iadd dX11_start_26 ?_
  refine P_pfi FLX11_83 FPX11_83 rfl dX11_start_27 h (fun M5 h => ?_)
  refine S_aload_n (i := 0) dX11_start_30 rfl rfl ?_
  refine P_gfr FLX11_71 rfl dX11_start_31 h (fun v2 h => ?_)
  refine S_aload_n (i := 0) dX11_start_34 rfl rfl ?_
  rcases ckE_some h with h | h
  · refine P_invPe 0 [(1, x0)] [] CPX13_begin q1245 dX11_start_35 rfl rfl rfl rfl rfl (by omega) h (fun r h => F_X13_begin (by omega) h) (fun r h => ?_)
    refine S_weak (ls' := [(1, x0), (9, 0), (9, 0), (9, 0)]) ⟨Or.inr rfl, ⟨Or.inl rfl, ⟨Or.inl rfl, ⟨Or.inl rfl, trivial⟩⟩⟩⟩ ?_
    exact s_X11_start_38 hD r0 h hz
  rcases ckE_some h with h | h
  · refine P_invPe 0 [(1, x0)] [] CPX14_begin q1245 dX11_start_35 rfl rfl rfl rfl rfl (by omega) h (fun r h => F_X14_begin (by omega) h) (fun r h => ?_)
    refine S_weak (ls' := [(1, x0), (9, 0), (9, 0), (9, 0)]) ⟨Or.inr rfl, ⟨Or.inl rfl, ⟨Or.inl rfl, ⟨Or.inl rfl, trivial⟩⟩⟩⟩ ?_
    exact s_X11_start_38 hD r0 h hz
  rcases ckE_some h with h | h
  · refine P_invPe 0 [(1, x0)] [] CPX30_begin q1245 dX11_start_35 rfl rfl rfl rfl rfl (by omega) h (fun r h => F_X30_begin (by omega) h) (fun r h => ?_)
    refine S_weak (ls' := [(1, x0), (9, 0), (9, 0), (9, 0)]) ⟨Or.inr rfl, ⟨Or.inl rfl, ⟨Or.inl rfl, ⟨Or.inl rfl, trivial⟩⟩⟩⟩ ?_
    exact s_X11_start_38 hD r0 h hz
  rcases ckE_some h with h | h
  · refine P_invPe 0 [(1, x0)] [] CPX31_begin q1245 dX11_start_35 rfl rfl rfl rfl rfl (by omega) h (fun r h => F_X31_begin (by omega) h) (fun r h => ?_)
    refine S_weak (ls' := [(1, x0), (9, 0), (9, 0), (9, 0)]) ⟨Or.inr rfl, ⟨Or.inl rfl, ⟨Or.inl rfl, ⟨Or.inl rfl, trivial⟩⟩⟩⟩ ?_
    exact s_X11_start_38 hD r0 h hz
  cases h
theorem F_X11_start {g : GG} {d : Nat} (hD : 213 ≤ d) {x0 x1 x2 x3 : Int} {M : MM} {r : MM} (h : f_X11_start x0 x1 x2 x3 M = some r) : Sem g d YX11_start 0 (ini YX11_start [(1, x0), (1, x1), (1, x2), (1, x3)]) [] M ((9, 0), r) := by
  change Sem g d YX11_start 0 [(1, x0), (1, x1), (1, x2), (1, x3)] [] M ((9, 0), r)
  exact s_X11_start_0 hD (P := fun x => x = r) (fun q e => by rw [e]) h rfl
/-! PeerSearch.begin(LPeerSearch$Work;IILPeerSearch$Plan;)I -/
theorem dX1_begin_0 : decode cX1_begin 0 = .ok (.aload_n 0, 1) := by decide +kernel
theorem dX1_begin_1 : decode cX1_begin 1 = .ok (.getfield 155, 3) := by decide +kernel
theorem dX1_begin_4 : decode cX1_begin 4 = .ok (.istore 5, 2) := by decide +kernel
theorem dX1_begin_6 : decode cX1_begin 6 = .ok (.aload_n 0, 1) := by decide +kernel
theorem dX1_begin_7 : decode cX1_begin 7 = .ok (.getfield 27, 3) := by decide +kernel
theorem dX1_begin_10 : decode cX1_begin 10 = .ok (.iload 5, 2) := by decide +kernel
theorem dX1_begin_12 : decode cX1_begin 12 = .ok (.new 25, 3) := by decide +kernel
theorem dX1_begin_15 : decode cX1_begin 15 = .ok (.dup, 1) := by decide +kernel
theorem dX1_begin_16 : decode cX1_begin 16 = .ok (.iload_n 3, 1) := by decide +kernel
theorem dX1_begin_17 : decode cX1_begin 17 = .ok (.iload_n 2, 1) := by decide +kernel
theorem dX1_begin_18 : decode cX1_begin 18 = .ok (.invokespecial 162, 3) := by decide +kernel
theorem dX1_begin_21 : decode cX1_begin 21 = .ok (.aastore, 1) := by decide +kernel
theorem dX1_begin_22 : decode cX1_begin 22 = .ok (.aload_n 0, 1) := by decide +kernel
theorem dX1_begin_23 : decode cX1_begin 23 = .ok (.dup, 1) := by decide +kernel
theorem dX1_begin_24 : decode cX1_begin 24 = .ok (.getfield 155, 3) := by decide +kernel
theorem dX1_begin_27 : decode cX1_begin 27 = .ok (.iconst 1, 1) := by decide +kernel
theorem dX1_begin_28 : decode cX1_begin 28 = .ok (.iadd, 1) := by decide +kernel
theorem dX1_begin_29 : decode cX1_begin 29 = .ok (.putfield 155, 3) := by decide +kernel
theorem dX1_begin_32 : decode cX1_begin 32 = .ok (.aload_n 1, 1) := by decide +kernel
theorem dX1_begin_33 : decode cX1_begin 33 = .ok (.aload_n 0, 1) := by decide +kernel
theorem dX1_begin_34 : decode cX1_begin 34 = .ok (.getfield 70, 3) := by decide +kernel
theorem dX1_begin_37 : decode cX1_begin 37 = .ok (.getfield 114, 3) := by decide +kernel
theorem dX1_begin_40 : decode cX1_begin 40 = .ok (.iload_n 2, 1) := by decide +kernel
theorem dX1_begin_41 : decode cX1_begin 41 = .ok (.aaload, 1) := by decide +kernel
theorem dX1_begin_42 : decode cX1_begin 42 = .ok (.aload 4, 2) := by decide +kernel
theorem dX1_begin_44 : decode cX1_begin 44 = .ok (.aload_n 0, 1) := by decide +kernel
theorem dX1_begin_45 : decode cX1_begin 45 = .ok (.getfield 27, 3) := by decide +kernel
theorem dX1_begin_48 : decode cX1_begin 48 = .ok (.iload 5, 2) := by decide +kernel
theorem dX1_begin_50 : decode cX1_begin 50 = .ok (.aaload, 1) := by decide +kernel
theorem dX1_begin_51 : decode cX1_begin 51 = .ok (.invokevirtual 163, 3) := by decide +kernel
theorem dX1_begin_54 : decode cX1_begin 54 = .ok (.iload 5, 2) := by decide +kernel
theorem dX1_begin_56 : decode cX1_begin 56 = .ok (.ireturn, 1) := by decide +kernel
def f_X1_begin (x0 x1 x2 x3 x4 : Int) (M : MM) : Option (Int × MM) :=
  (gfi 1 8 x0 M).bind fun v1 =>
  (gfr 1 7 x0 M).bind fun v2 =>
  (nob 26 7 37 M).bind fun r1 =>
  nn r1.1 <| (f_X26_init r1.1 x3 x2 r1.2).bind fun M1 =>
  (sar 4 v2 v1 r1.1 M1).bind fun M2 =>
  (gfi 1 8 x0 M2).bind fun v3 =>
  (pfi 1 8 x0 (v3 + 1) M2).bind fun M3 =>
  (gfr 1 0 x0 M3).bind fun v4 =>
  (gfr 6 5 v4 M3).bind fun v5 =>
  (lar 7 v5 x2 M3).bind fun v6 =>
  (gfr 1 7 x0 M3).bind fun v7 =>
  (lar 4 v7 v1 M3).bind fun v8 =>
  ck 11 x1 M3 <| (f_X11_start x1 v6 x4 v8 M3).bind fun M4 =>
  some (v1, M4)
theorem s_X1_begin_0 {g : GG} {d : Nat} (hD : 214 ≤ d) {x0 x1 x2 x3 x4 : Int} {M : MM} {o : AV × MM} {P : (Int × MM) → Prop} (r0 : ∀ r : Int × MM, P r → o = ((0, r.1), r.2)) {z : Int × MM} (h : f_X1_begin x0 x1 x2 x3 x4 M = some z) (hz : P z) : Sem g d YX1_begin 0 [(1, x0), (1, x1), (0, x2), (0, x3), (1, x4), (9, 0)] [] M o := by
  delta f_X1_begin at h
  refine S_aload_n (i := 0) dX1_begin_0 rfl rfl ?_
  refine P_gfi FLX1_155 rfl dX1_begin_1 h (fun v1 h => ?_)
  refine S_istore dX1_begin_4 (Nat.le_of_ble_eq_true rfl) rfl rfl ?_
  change Sem g d YX1_begin 6 [(1, x0), (1, x1), (0, x2), (0, x3), (1, x4), (0, v1)] [] M o
  refine S_aload_n (i := 0) dX1_begin_6 rfl rfl ?_
  refine P_gfr FLX1_27 rfl dX1_begin_7 h (fun v2 h => ?_)
  refine S_iload dX1_begin_10 rfl ?_
  refine P_nob NLX1_25 rfl dX1_begin_12 h (fun r1 h => ?_)
  refine S_dup dX1_begin_15 (Nat.le_of_ble_eq_true rfl) ?_
  refine S_iload_n (i := 3) dX1_begin_16 rfl rfl ?_
  refine S_iload_n (i := 2) dX1_begin_17 rfl rfl ?_
  refine P_invI' [(0, x3), (0, x2)] [(1, r1.1), (0, v1), (1, v2)] CIX26_init MLX1_162 dX1_begin_18 rfl rfl rfl rfl (by omega) h (fun r h => F_X26_init (by omega) h) (fun M1 h => ?_)
  refine P_sar (t := 4) ⟨by decide, by decide⟩ dX1_begin_21 h (fun M2 h => ?_)
  refine S_aload_n (i := 0) dX1_begin_22 rfl rfl ?_
  refine S_dup dX1_begin_23 (Nat.le_of_ble_eq_true rfl) ?_
  refine P_gfi FLX1_155 rfl dX1_begin_24 h (fun v3 h => ?_)
  refine S_iconst dX1_begin_27 rfl ?_
  refine S_iadd dX1_begin_28 ?_
  refine P_pfi FLX1_155 FPX1_155 rfl dX1_begin_29 h (fun M3 h => ?_)
  refine S_aload_n (i := 1) dX1_begin_32 rfl rfl ?_
  refine S_aload_n (i := 0) dX1_begin_33 rfl rfl ?_
  refine P_gfr FLX1_70 rfl dX1_begin_34 h (fun v4 h => ?_)
  refine P_gfr FLX1_114 rfl dX1_begin_37 h (fun v5 h => ?_)
  refine S_iload_n (i := 2) dX1_begin_40 rfl rfl ?_
  refine P_lar (t := 7) ⟨by decide, by decide⟩ dX1_begin_41 h (fun v6 h => ?_)
  refine S_aload dX1_begin_42 rfl ?_
  refine S_aload_n (i := 0) dX1_begin_44 rfl rfl ?_
  refine P_gfr FLX1_27 rfl dX1_begin_45 h (fun v7 h => ?_)
  refine S_iload dX1_begin_48 rfl ?_
  refine P_lar (t := 4) ⟨by decide, by decide⟩ dX1_begin_50 h (fun v8 h => ?_)
  refine P_invVm' [(1, v6), (1, x4), (1, v8)] [] CVX11_start MLX1_163 dX1_begin_51 rfl rfl rfl rfl (by omega) h (fun r h => F_X11_start (by omega) h) (fun M4 h => ?_)
  refine S_iload dX1_begin_54 rfl ?_
  obtain rfl := r0 _ (some_P (P := fun r => P r) h hz)
  exact P_ret dX1_begin_56 rfl (Or.inl rfl)
theorem F_X1_begin {g : GG} {d : Nat} (hD : 214 ≤ d) {x0 x1 x2 x3 x4 : Int} {M : MM} {r : Int × MM} (h : f_X1_begin x0 x1 x2 x3 x4 M = some r) : Sem g d YX1_begin 0 (ini YX1_begin [(1, x0), (1, x1), (0, x2), (0, x3), (1, x4)]) [] M ((0, r.1), r.2) := by
  change Sem g d YX1_begin 0 [(1, x0), (1, x1), (0, x2), (0, x3), (1, x4), (9, 0)] [] M ((0, r.1), r.2)
  exact s_X1_begin_0 hD (P := fun x => x = r) (fun q e => by rw [e]) h rfl
/-! PeerSearch.free()LPeerSearch$Work; -/
theorem dX1_free_0 : decode cX1_free 0 = .ok (.iconst 0, 1) := by decide +kernel
theorem dX1_free_1 : decode cX1_free 1 = .ok (.istore_n 1, 1) := by decide +kernel
theorem dX1_free_2 : decode cX1_free 2 = .ok (.iload_n 1, 1) := by decide +kernel
theorem dX1_free_3 : decode cX1_free 3 = .ok (.bipush 12, 2) := by decide +kernel
theorem dX1_free_5 : decode cX1_free 5 = .ok (.if_icmp .ge 38, 3) := by decide +kernel
theorem dX1_free_8 : decode cX1_free 8 = .ok (.aload_n 0, 1) := by decide +kernel
theorem dX1_free_9 : decode cX1_free 9 = .ok (.getfield 155, 3) := by decide +kernel
theorem dX1_free_12 : decode cX1_free 12 = .ok (.sipush 256, 3) := by decide +kernel
theorem dX1_free_15 : decode cX1_free 15 = .ok (.if_icmp .ge 28, 3) := by decide +kernel
theorem dX1_free_18 : decode cX1_free 18 = .ok (.aload_n 0, 1) := by decide +kernel
theorem dX1_free_19 : decode cX1_free 19 = .ok (.getfield 21, 3) := by decide +kernel
theorem dX1_free_22 : decode cX1_free 22 = .ok (.iload_n 1, 1) := by decide +kernel
theorem dX1_free_23 : decode cX1_free 23 = .ok (.aaload, 1) := by decide +kernel
theorem dX1_free_24 : decode cX1_free 24 = .ok (.getfield 158, 3) := by decide +kernel
theorem dX1_free_27 : decode cX1_free 27 = .ok (.ifCond .ne 10, 3) := by decide +kernel
theorem dX1_free_30 : decode cX1_free 30 = .ok (.aload_n 0, 1) := by decide +kernel
theorem dX1_free_31 : decode cX1_free 31 = .ok (.getfield 21, 3) := by decide +kernel
theorem dX1_free_34 : decode cX1_free 34 = .ok (.iload_n 1, 1) := by decide +kernel
theorem dX1_free_35 : decode cX1_free 35 = .ok (.aaload, 1) := by decide +kernel
theorem dX1_free_36 : decode cX1_free 36 = .ok (.areturn, 1) := by decide +kernel
theorem dX1_free_37 : decode cX1_free 37 = .ok (.iinc 1 1, 3) := by decide +kernel
theorem dX1_free_40 : decode cX1_free 40 = .ok (.goto (-38), 3) := by decide +kernel
theorem dX1_free_43 : decode cX1_free 43 = .ok (.aconst_null, 1) := by decide +kernel
theorem dX1_free_44 : decode cX1_free 44 = .ok (.areturn, 1) := by decide +kernel
def j_X1_free_43 (M : MM) : Option (Int) :=
  some (-1)
def j_X1_free_30 (x0 x1 : Int) (M : MM) : Option (Int) :=
  (gfr 1 6 x0 M).bind fun v1 =>
  (lar 3 v1 x1 M).bind fun v2 =>
  some v2
def b_X1_free_2 (x0 x1 : Int) (M : MM) : Option ((Int) ⊕ (Int)) :=
  if w32 x1 < w32 12 then
    (gfi 1 8 x0 M).bind fun v1 =>
    if w32 v1 < w32 256 then
      (gfr 1 6 x0 M).bind fun v2 =>
      (lar 3 v2 x1 M).bind fun v3 =>
      (gfi 11 6 v3 M).bind fun v4 =>
      if w32 v4 = 0 then
        xit (j_X1_free_30 x0 x1 M)
      else
        cnt (x1 + 1)
    else
      xit (j_X1_free_43 M)
  else
    xit (j_X1_free_43 M)
def l_X1_free_2 (x0 x1 : Int) (M : MM) : Option (Int) := lpN (fun s : Int => b_X1_free_2 x0 s M) FU x1
def f_X1_free (x0 : Int) (M : MM) : Option (Int) :=
  l_X1_free_2 x0 0 M
theorem s_X1_free_43 {g : GG} {d : Nat} (hD : 0 ≤ d) {M : MM} {o : AV × MM} {P : (Int) → Prop} (r0 : ∀ r : Int, P r → o = ((1, r), M)) {z : Int} (h : j_X1_free_43 M = some z) (hz : P z) : Sem g d YX1_free 43 [(9, 0), (9, 0)] [] M o := by
  delta j_X1_free_43 at h
  refine S_null dX1_free_43 ?_
  obtain rfl := r0 _ (some_P (P := fun r => P r) h hz)
  exact S_areturn dX1_free_44 ⟨_, rfl, Or.inl ⟨_, rfl⟩⟩
theorem s_X1_free_30 {g : GG} {d : Nat} (hD : 0 ≤ d) {x0 x1 : Int} {M : MM} {o : AV × MM} {P : (Int) → Prop} (r0 : ∀ r : Int, P r → o = ((1, r), M)) {z : Int} (h : j_X1_free_30 x0 x1 M = some z) (hz : P z) : Sem g d YX1_free 30 [(1, x0), (0, x1)] [] M o := by
  delta j_X1_free_30 at h
  refine S_aload_n (i := 0) dX1_free_30 rfl rfl ?_
  refine P_gfr FLX1_21 rfl dX1_free_31 h (fun v1 h => ?_)
  refine S_iload_n (i := 1) dX1_free_34 rfl rfl ?_
  refine P_lar (t := 3) ⟨by decide, by decide⟩ dX1_free_35 h (fun v2 h => ?_)
  obtain rfl := r0 _ (some_P (P := fun r => P r) h hz)
  exact S_areturn dX1_free_36 ⟨_, rfl, Or.inl ⟨_, rfl⟩⟩
theorem s_X1_free_2 {g : GG} {d : Nat} (hD : 0 ≤ d) {x0 x1 : Int} {M : MM} {o : AV × MM} {P : ((Int) ⊕ (Int)) → Prop} (c0 : ∀ s : Int, P (.inl s) → Sem g d YX1_free 2 [(1, x0), (0, s)] [] M o) (r0 : ∀ r : Int, P (.inr r) → o = ((1, r), M)) {z : (Int) ⊕ (Int)} (h : b_X1_free_2 x0 x1 M = some z) (hz : P z) : Sem g d YX1_free 2 [(1, x0), (0, x1)] [] M o := by
  delta b_X1_free_2 at h
  refine S_iload_n (i := 1) dX1_free_2 rfl rfl ?_
  refine S_bipush (z := 12) dX1_free_3 rfl ?_
  refine P_icmp_ge (tgt := 43) dX1_free_5 rfl h (fun h => ?_) (fun h => ?_)
  · refine S_weak (ls' := [(9, 0), (9, 0)]) ⟨Or.inl rfl, ⟨Or.inl rfl, trivial⟩⟩ ?_
    obtain ⟨z0, h, hz⟩ := xit_some' (P := fun r => P r) h hz
    exact s_X1_free_43 hD (P := fun r => P (.inr r)) r0 h hz
  · refine S_aload_n (i := 0) dX1_free_8 rfl rfl ?_
    refine P_gfi FLX1_155 rfl dX1_free_9 h (fun v1 h => ?_)
    refine S_sipush (z := 256) dX1_free_12 rfl ?_
    refine P_icmp_ge (tgt := 43) dX1_free_15 rfl h (fun h => ?_) (fun h => ?_)
    · refine S_weak (ls' := [(9, 0), (9, 0)]) ⟨Or.inl rfl, ⟨Or.inl rfl, trivial⟩⟩ ?_
      obtain ⟨z0, h, hz⟩ := xit_some' (P := fun r => P r) h hz
      exact s_X1_free_43 hD (P := fun r => P (.inr r)) r0 h hz
    · refine S_aload_n (i := 0) dX1_free_18 rfl rfl ?_
      refine P_gfr FLX1_21 rfl dX1_free_19 h (fun v2 h => ?_)
      refine S_iload_n (i := 1) dX1_free_22 rfl rfl ?_
      refine P_lar (t := 3) ⟨by decide, by decide⟩ dX1_free_23 h (fun v3 h => ?_)
      refine P_gfi FLX1_158 rfl dX1_free_24 h (fun v4 h => ?_)
      refine P_if_ne (tgt := 37) dX1_free_27 rfl h (fun h => ?_) (fun h => ?_)
      · refine S_iinc dX1_free_37 rfl rfl rfl ?_
        change Sem g d YX1_free 40 [(1, x0), (0, x1 + 1)] [] M o
        refine S_goto (tgt := 2) dX1_free_40 rfl ?_
        exact c0 (x1 + 1) (some_P (P := fun r => P r) h hz)
      · obtain ⟨z0, h, hz⟩ := xit_some' (P := fun r => P r) h hz
        exact s_X1_free_30 hD (P := fun r => P (.inr r)) r0 h hz
theorem sl_X1_free_2 {g : GG} {d : Nat} (hD : 0 ≤ d) {x0 x1 : Int} {M : MM} {o : AV × MM} {P : (Int) → Prop} (r0 : ∀ r : Int, P r → o = ((1, r), M)) {z : Int} (h : l_X1_free_2 x0 x1 M = some z) (hz : P z) : Sem g d YX1_free 2 [(1, x0), (0, x1)] [] M o := by
  refine lp_sound (S := fun s : Int => Sem g d YX1_free 2 [(1, x0), (0, s)] [] M o) (P := P) ?_ FU x1 z h hz
  intro s x hx hP
  exact s_X1_free_2 hD (P := Sum.elim (fun s : Int => Sem g d YX1_free 2 [(1, x0), (0, s)] [] M o) P) (fun s h => h) (fun s h => r0 s h) hx hP
theorem s_X1_free_0 {g : GG} {d : Nat} (hD : 0 ≤ d) {x0 : Int} {M : MM} {o : AV × MM} {P : (Int) → Prop} (r0 : ∀ r : Int, P r → o = ((1, r), M)) {z : Int} (h : f_X1_free x0 M = some z) (hz : P z) : Sem g d YX1_free 0 [(1, x0), (9, 0)] [] M o := by
  delta f_X1_free at h
  refine S_iconst dX1_free_0 rfl ?_
  refine S_istore_n (i := 1) dX1_free_1 rfl (Nat.le_of_ble_eq_true rfl) rfl rfl ?_
  change Sem g d YX1_free 2 [(1, x0), (0, 0)] [] M o
  exact sl_X1_free_2 hD r0 h hz
theorem F_X1_free {g : GG} {d : Nat} (hD : 0 ≤ d) {x0 : Int} {M : MM} {r : Int} (h : f_X1_free x0 M = some r) : Sem g d YX1_free 0 (ini YX1_free [(1, x0)]) [] M ((1, r), M) := by
  change Sem g d YX1_free 0 [(1, x0), (9, 0)] [] M ((1, r), M)
  exact s_X1_free_0 hD (P := fun x => x = r) (fun q e => by rw [e]) h rfl
/-! PeerSearch$Joining.from(Z)LPeerSearch$Joining; -/
theorem dX13_from_0 : decode cX13_from 0 = .ok (.aload_n 0, 1) := by decide +kernel
theorem dX13_from_1 : decode cX13_from 1 = .ok (.iload_n 1, 1) := by decide +kernel
theorem dX13_from_2 : decode cX13_from 2 = .ok (.putfield 7, 3) := by decide +kernel
theorem dX13_from_5 : decode cX13_from 5 = .ok (.aload_n 0, 1) := by decide +kernel
theorem dX13_from_6 : decode cX13_from 6 = .ok (.areturn, 1) := by decide +kernel
def f_X13_from (x0 x1 : Int) (M : MM) : Option (Int × MM) :=
  (pfz 13 0 x0 x1 M).bind fun M1 =>
  some (x0, M1)
theorem s_X13_from_0 {g : GG} {d : Nat} (hD : 0 ≤ d) {x0 x1 : Int} {M : MM} {o : AV × MM} {P : (Int × MM) → Prop} (r0 : ∀ r : Int × MM, P r → o = ((1, r.1), r.2)) {z : Int × MM} (h : f_X13_from x0 x1 M = some z) (hz : P z) : Sem g d YX13_from 0 [(1, x0), (0, x1)] [] M o := by
  delta f_X13_from at h
  refine S_aload_n (i := 0) dX13_from_0 rfl rfl ?_
  refine S_iload_n (i := 1) dX13_from_1 rfl rfl ?_
  refine P_pfz FLX13_7 FPX13_7 rfl dX13_from_2 h (fun M1 h => ?_)
  refine S_aload_n (i := 0) dX13_from_5 rfl rfl ?_
  obtain rfl := r0 _ (some_P (P := fun r => P r) h hz)
  exact S_areturn dX13_from_6 ⟨_, rfl, Or.inl ⟨_, rfl⟩⟩
theorem F_X13_from {g : GG} {d : Nat} (hD : 0 ≤ d) {x0 x1 : Int} {M : MM} {r : Int × MM} (h : f_X13_from x0 x1 M = some r) : Sem g d YX13_from 0 (ini YX13_from [(1, x0), (0, x1)]) [] M ((1, r.1), r.2) := by
  change Sem g d YX13_from 0 [(1, x0), (0, x1)] [] M ((1, r.1), r.2)
  exact s_X13_from_0 hD (P := fun x => x = r) (fun q e => by rw [e]) h rfl
/-! PeerSearch$Peer.live()V -/
theorem dX17_live_0 : decode cX17_live 0 = .ok (.aload_n 0, 1) := by decide +kernel
theorem dX17_live_1 : decode cX17_live 1 = .ok (.iconst 1, 1) := by decide +kernel
theorem dX17_live_2 : decode cX17_live 2 = .ok (.putfield 80, 3) := by decide +kernel
theorem dX17_live_5 : decode cX17_live 5 = .ok (.aload_n 0, 1) := by decide +kernel
theorem dX17_live_6 : decode cX17_live 6 = .ok (.aload_n 0, 1) := by decide +kernel
theorem dX17_live_7 : decode cX17_live 7 = .ok (.getfield 42, 3) := by decide +kernel
theorem dX17_live_10 : decode cX17_live 10 = .ok (.getfield 83, 3) := by decide +kernel
theorem dX17_live_13 : decode cX17_live 13 = .ok (.getfield 87, 3) := by decide +kernel
theorem dX17_live_16 : decode cX17_live 16 = .ok (.putfield 92, 3) := by decide +kernel
theorem dX17_live_19 : decode cX17_live 19 = .ok (.aload_n 0, 1) := by decide +kernel
theorem dX17_live_20 : decode cX17_live 20 = .ok (.aload_n 0, 1) := by decide +kernel
theorem dX17_live_21 : decode cX17_live 21 = .ok (.getfield 42, 3) := by decide +kernel
theorem dX17_live_24 : decode cX17_live 24 = .ok (.getfield 83, 3) := by decide +kernel
theorem dX17_live_27 : decode cX17_live 27 = .ok (.getfield 87, 3) := by decide +kernel
theorem dX17_live_30 : decode cX17_live 30 = .ok (.putfield 95, 3) := by decide +kernel
theorem dX17_live_33 : decode cX17_live 33 = .ok (.aload_n 0, 1) := by decide +kernel
theorem dX17_live_34 : decode cX17_live 34 = .ok (.aload_n 0, 1) := by decide +kernel
theorem dX17_live_35 : decode cX17_live 35 = .ok (.getfield 42, 3) := by decide +kernel
theorem dX17_live_38 : decode cX17_live 38 = .ok (.getfield 83, 3) := by decide +kernel
theorem dX17_live_41 : decode cX17_live 41 = .ok (.getfield 87, 3) := by decide +kernel
theorem dX17_live_44 : decode cX17_live 44 = .ok (.putfield 98, 3) := by decide +kernel
theorem dX17_live_47 : decode cX17_live 47 = .ok (.return_, 1) := by decide +kernel
def f_X17_live (x0 : Int) (M : MM) : Option (MM) :=
  (pfi 17 3 x0 1 M).bind fun M1 =>
  (gfr 17 0 x0 M1).bind fun v1 =>
  (gfr 6 2 v1 M1).bind fun v2 =>
  (gfi 7 3 v2 M1).bind fun v3 =>
  (pfi 17 16 x0 v3 M1).bind fun M2 =>
  (gfr 17 0 x0 M2).bind fun v4 =>
  (gfr 6 2 v4 M2).bind fun v5 =>
  (gfi 7 3 v5 M2).bind fun v6 =>
  (pfi 17 17 x0 v6 M2).bind fun M3 =>
  (gfr 17 0 x0 M3).bind fun v7 =>
  (gfr 6 2 v7 M3).bind fun v8 =>
  (gfi 7 3 v8 M3).bind fun v9 =>
  (pfi 17 18 x0 v9 M3).bind fun M4 =>
  some M4
theorem s_X17_live_0 {g : GG} {d : Nat} (hD : 0 ≤ d) {x0 : Int} {M : MM} {o : AV × MM} {P : (MM) → Prop} (r0 : ∀ r : MM, P r → o = ((9, 0), r)) {z : MM} (h : f_X17_live x0 M = some z) (hz : P z) : Sem g d YX17_live 0 [(1, x0)] [] M o := by
  delta f_X17_live at h
  refine S_aload_n (i := 0) dX17_live_0 rfl rfl ?_
  refine S_iconst dX17_live_1 rfl ?_
  refine P_pfi FLX17_80 FPX17_80 rfl dX17_live_2 h (fun M1 h => ?_)
  refine S_aload_n (i := 0) dX17_live_5 rfl rfl ?_
  refine S_aload_n (i := 0) dX17_live_6 rfl rfl ?_
  refine P_gfr FLX17_42 rfl dX17_live_7 h (fun v1 h => ?_)
  refine P_gfr FLX17_83 rfl dX17_live_10 h (fun v2 h => ?_)
  refine P_gfi FLX17_87 rfl dX17_live_13 h (fun v3 h => ?_)
  refine P_pfi FLX17_92 FPX17_92 rfl dX17_live_16 h (fun M2 h => ?_)
  refine S_aload_n (i := 0) dX17_live_19 rfl rfl ?_
  refine S_aload_n (i := 0) dX17_live_20 rfl rfl ?_
  refine P_gfr FLX17_42 rfl dX17_live_21 h (fun v4 h => ?_)
  refine P_gfr FLX17_83 rfl dX17_live_24 h (fun v5 h => ?_)
  refine P_gfi FLX17_87 rfl dX17_live_27 h (fun v6 h => ?_)
  refine P_pfi FLX17_95 FPX17_95 rfl dX17_live_30 h (fun M3 h => ?_)
  refine S_aload_n (i := 0) dX17_live_33 rfl rfl ?_
  refine S_aload_n (i := 0) dX17_live_34 rfl rfl ?_
  refine P_gfr FLX17_42 rfl dX17_live_35 h (fun v7 h => ?_)
  refine P_gfr FLX17_83 rfl dX17_live_38 h (fun v8 h => ?_)
  refine P_gfi FLX17_87 rfl dX17_live_41 h (fun v9 h => ?_)
  refine P_pfi FLX17_98 FPX17_98 rfl dX17_live_44 h (fun M4 h => ?_)
  obtain rfl := r0 _ (some_P (P := fun r => P r) h hz)
  exact S_return dX17_live_47 rfl
theorem F_X17_live {g : GG} {d : Nat} (hD : 0 ≤ d) {x0 : Int} {M : MM} {r : MM} (h : f_X17_live x0 M = some r) : Sem g d YX17_live 0 (ini YX17_live [(1, x0)]) [] M ((9, 0), r) := by
  change Sem g d YX17_live 0 [(1, x0)] [] M ((9, 0), r)
  exact s_X17_live_0 hD (P := fun x => x = r) (fun q e => by rw [e]) h rfl
/-! PeerSearch$Contact.<init>()V -/
theorem dX23_init_0 : decode cX23_init 0 = .ok (.aload_n 0, 1) := by decide +kernel
theorem dX23_init_1 : decode cX23_init 1 = .ok (.invokespecial 1, 3) := by decide +kernel
theorem dX23_init_4 : decode cX23_init 4 = .ok (.aload_n 0, 1) := by decide +kernel
theorem dX23_init_5 : decode cX23_init 5 = .ok (.new 7, 3) := by decide +kernel
theorem dX23_init_8 : decode cX23_init 8 = .ok (.dup, 1) := by decide +kernel
theorem dX23_init_9 : decode cX23_init 9 = .ok (.invokespecial 9, 3) := by decide +kernel
theorem dX23_init_12 : decode cX23_init 12 = .ok (.putfield 10, 3) := by decide +kernel
theorem dX23_init_15 : decode cX23_init 15 = .ok (.return_, 1) := by decide +kernel
def f_X23_init (x0 : Int) (M : MM) : Option (MM) :=
  nn x0 <|
  (nob 3 1 38 M).bind fun r1 =>
  nn r1.1 <| (f_X3_init r1.1 r1.2).bind fun M1 =>
  (pfr 23 0 x0 r1.1 M1).bind fun M2 =>
  some M2
theorem s_X23_init_0 {g : GG} {d : Nat} (hD : 2 ≤ d) {x0 : Int} {M : MM} {o : AV × MM} {P : (MM) → Prop} (r0 : ∀ r : MM, P r → o = ((9, 0), r)) {z : MM} (h : f_X23_init x0 M = some z) (hz : P z) : Sem g d YX23_init 0 [(1, x0)] [] M o := by
  delta f_X23_init at h
  refine S_aload_n (i := 0) dX23_init_0 rfl rfl ?_
  refine P_obj q1027 dX23_init_1 rfl (by omega) h (fun h => ?_)
  refine S_aload_n (i := 0) dX23_init_4 rfl rfl ?_
  refine P_nob NLX23_7 rfl dX23_init_5 h (fun r1 h => ?_)
  refine S_dup dX23_init_8 (Nat.le_of_ble_eq_true rfl) ?_
  refine P_invI' [] [(1, r1.1), (1, x0)] CIX3_init MLX23_9 dX23_init_9 rfl rfl rfl rfl (by omega) h (fun r h => F_X3_init (by omega) h) (fun M1 h => ?_)
  refine P_pfr FLX23_10 FPX23_10 (Or.inl ⟨_, rfl⟩) rfl dX23_init_12 h (fun M2 h => ?_)
  obtain rfl := r0 _ (some_P (P := fun r => P r) h hz)
  exact S_return dX23_init_15 rfl
theorem F_X23_init {g : GG} {d : Nat} (hD : 2 ≤ d) {x0 : Int} {M : MM} {r : MM} (h : f_X23_init x0 M = some r) : Sem g d YX23_init 0 (ini YX23_init [(1, x0)]) [] M ((9, 0), r) := by
  change Sem g d YX23_init 0 [(1, x0)] [] M ((9, 0), r)
  exact s_X23_init_0 hD (P := fun x => x = r) (fun q e => by rw [e]) h rfl
/-! PeerSearch$Pool.take(LPeerSearch$Key;I)LPeerSearch$Contact; -/
theorem dX9_take_0 : decode cX9_take 0 = .ok (.aload_n 0, 1) := by decide +kernel
theorem dX9_take_1 : decode cX9_take 1 = .ok (.getfield 15, 3) := by decide +kernel
theorem dX9_take_4 : decode cX9_take 4 = .ok (.ifCond .le 26, 3) := by decide +kernel
theorem dX9_take_7 : decode cX9_take 7 = .ok (.aload_n 0, 1) := by decide +kernel
theorem dX9_take_8 : decode cX9_take 8 = .ok (.dup, 1) := by decide +kernel
theorem dX9_take_9 : decode cX9_take 9 = .ok (.getfield 15, 3) := by decide +kernel
theorem dX9_take_12 : decode cX9_take 12 = .ok (.iconst 1, 1) := by decide +kernel
theorem dX9_take_13 : decode cX9_take 13 = .ok (.isub, 1) := by decide +kernel
theorem dX9_take_14 : decode cX9_take 14 = .ok (.putfield 15, 3) := by decide +kernel
theorem dX9_take_17 : decode cX9_take 17 = .ok (.aload_n 0, 1) := by decide +kernel
theorem dX9_take_18 : decode cX9_take 18 = .ok (.getfield 9, 3) := by decide +kernel
theorem dX9_take_21 : decode cX9_take 21 = .ok (.aload_n 0, 1) := by decide +kernel
theorem dX9_take_22 : decode cX9_take 22 = .ok (.getfield 15, 3) := by decide +kernel
theorem dX9_take_25 : decode cX9_take 25 = .ok (.aaload, 1) := by decide +kernel
theorem dX9_take_26 : decode cX9_take 26 = .ok (.astore_n 3, 1) := by decide +kernel
theorem dX9_take_27 : decode cX9_take 27 = .ok (.goto 11, 3) := by decide +kernel
theorem dX9_take_30 : decode cX9_take 30 = .ok (.new 7, 3) := by decide +kernel
theorem dX9_take_33 : decode cX9_take 33 = .ok (.dup, 1) := by decide +kernel
theorem dX9_take_34 : decode cX9_take 34 = .ok (.invokespecial 19, 3) := by decide +kernel
theorem dX9_take_37 : decode cX9_take 37 = .ok (.astore_n 3, 1) := by decide +kernel
theorem dX9_take_38 : decode cX9_take 38 = .ok (.aload_n 3, 1) := by decide +kernel
theorem dX9_take_39 : decode cX9_take 39 = .ok (.getfield 20, 3) := by decide +kernel
theorem dX9_take_42 : decode cX9_take 42 = .ok (.aload_n 1, 1) := by decide +kernel
theorem dX9_take_43 : decode cX9_take 43 = .ok (.invokevirtual 24, 3) := by decide +kernel
theorem dX9_take_46 : decode cX9_take 46 = .ok (.aload_n 3, 1) := by decide +kernel
theorem dX9_take_47 : decode cX9_take 47 = .ok (.iload_n 2, 1) := by decide +kernel
theorem dX9_take_48 : decode cX9_take 48 = .ok (.putfield 30, 3) := by decide +kernel
theorem dX9_take_51 : decode cX9_take 51 = .ok (.aload_n 3, 1) := by decide +kernel
theorem dX9_take_52 : decode cX9_take 52 = .ok (.areturn, 1) := by decide +kernel
def j_X9_take_38 (x1 x2 x3 : Int) (M : MM) : Option (Int × MM) :=
  (gfr 23 0 x3 M).bind fun v1 =>
  ck 3 v1 M <| (f_X3_set v1 x1 M).bind fun M1 =>
  (pfi 23 1 x3 x2 M1).bind fun M2 =>
  some (x3, M2)
def f_X9_take (x0 x1 x2 : Int) (M : MM) : Option (Int × MM) :=
  (gfi 9 1 x0 M).bind fun v1 =>
  if 0 < w32 v1 then
    (gfi 9 1 x0 M).bind fun v2 =>
    (pfi 9 1 x0 (v2 - 1) M).bind fun M2 =>
    (gfr 9 0 x0 M2).bind fun v3 =>
    (gfi 9 1 x0 M2).bind fun v4 =>
    (lar 6 v3 v4 M2).bind fun v5 =>
    j_X9_take_38 x1 x2 v5 M2
  else
    (nob 23 2 39 M).bind fun r1 =>
    nn r1.1 <| (f_X23_init r1.1 r1.2).bind fun M1 =>
    j_X9_take_38 x1 x2 r1.1 M1
theorem s_X9_take_38 {g : GG} {d : Nat} (hD : 3 ≤ d) {x1 x2 x3 : Int} {M : MM} {o : AV × MM} {P : (Int × MM) → Prop} (r0 : ∀ r : Int × MM, P r → o = ((1, r.1), r.2)) {z : Int × MM} (h : j_X9_take_38 x1 x2 x3 M = some z) (hz : P z) : Sem g d YX9_take 38 [(9, 0), (1, x1), (0, x2), (1, x3)] [] M o := by
  delta j_X9_take_38 at h
  refine S_aload_n (i := 3) dX9_take_38 rfl rfl ?_
  refine P_gfr FLX9_20 rfl dX9_take_39 h (fun v1 h => ?_)
  refine S_aload_n (i := 1) dX9_take_42 rfl rfl ?_
  refine P_invVm' [(1, x1)] [] CVX3_set MLX9_24 dX9_take_43 rfl rfl rfl rfl (by omega) h (fun r h => F_X3_set (by omega) h) (fun M1 h => ?_)
  refine S_aload_n (i := 3) dX9_take_46 rfl rfl ?_
  refine S_iload_n (i := 2) dX9_take_47 rfl rfl ?_
  refine P_pfi FLX9_30 FPX9_30 rfl dX9_take_48 h (fun M2 h => ?_)
  refine S_aload_n (i := 3) dX9_take_51 rfl rfl ?_
  obtain rfl := r0 _ (some_P (P := fun r => P r) h hz)
  exact S_areturn dX9_take_52 ⟨_, rfl, Or.inl ⟨_, rfl⟩⟩
theorem s_X9_take_0 {g : GG} {d : Nat} (hD : 3 ≤ d) {x0 x1 x2 : Int} {M : MM} {o : AV × MM} {P : (Int × MM) → Prop} (r0 : ∀ r : Int × MM, P r → o = ((1, r.1), r.2)) {z : Int × MM} (h : f_X9_take x0 x1 x2 M = some z) (hz : P z) : Sem g d YX9_take 0 [(1, x0), (1, x1), (0, x2), (9, 0)] [] M o := by
  delta f_X9_take at h
  refine S_aload_n (i := 0) dX9_take_0 rfl rfl ?_
  refine P_gfi FLX9_15 rfl dX9_take_1 h (fun v1 h => ?_)
  refine P_if_le (tgt := 30) dX9_take_4 rfl h (fun h => ?_) (fun h => ?_)
  · refine P_nob NLX9_7 rfl dX9_take_30 h (fun r1 h => ?_)
    refine S_dup dX9_take_33 (Nat.le_of_ble_eq_true rfl) ?_
    refine P_invI' [] [(1, r1.1)] CIX23_init MLX9_19 dX9_take_34 rfl rfl rfl rfl (by omega) h (fun r h => F_X23_init (by omega) h) (fun M1 h => ?_)
    refine S_astore_n (i := 3) dX9_take_37 rfl (Nat.le_of_ble_eq_true rfl) rfl rfl ?_
    change Sem g d YX9_take 38 [(1, x0), (1, x1), (0, x2), (1, r1.1)] [] M1 o
    refine S_weak (ls' := [(9, 0), (1, x1), (0, x2), (1, r1.1)]) ⟨Or.inl rfl, ⟨Or.inr rfl, ⟨Or.inr rfl, ⟨Or.inr rfl, trivial⟩⟩⟩⟩ ?_
    exact s_X9_take_38 hD r0 h hz
  · refine S_aload_n (i := 0) dX9_take_7 rfl rfl ?_
    refine S_dup dX9_take_8 (Nat.le_of_ble_eq_true rfl) ?_
    refine P_gfi FLX9_15 rfl dX9_take_9 h (fun v2 h => ?_)
    refine S_iconst dX9_take_12 rfl ?_
    refine S_isub dX9_take_13 ?_
    refine P_pfi FLX9_15 FPX9_15 rfl dX9_take_14 h (fun M2 h => ?_)
    refine S_aload_n (i := 0) dX9_take_17 rfl rfl ?_
    refine P_gfr FLX9_9 rfl dX9_take_18 h (fun v3 h => ?_)
    refine S_aload_n (i := 0) dX9_take_21 rfl rfl ?_
    refine P_gfi FLX9_15 rfl dX9_take_22 h (fun v4 h => ?_)
    refine P_lar (t := 6) ⟨by decide, by decide⟩ dX9_take_25 h (fun v5 h => ?_)
    refine S_astore_n (i := 3) dX9_take_26 rfl (Nat.le_of_ble_eq_true rfl) rfl rfl ?_
    change Sem g d YX9_take 27 [(1, x0), (1, x1), (0, x2), (1, v5)] [] M2 o
    refine S_goto (tgt := 38) dX9_take_27 rfl ?_
    refine S_weak (ls' := [(9, 0), (1, x1), (0, x2), (1, v5)]) ⟨Or.inl rfl, ⟨Or.inr rfl, ⟨Or.inr rfl, ⟨Or.inr rfl, trivial⟩⟩⟩⟩ ?_
    exact s_X9_take_38 hD r0 h hz
theorem F_X9_take {g : GG} {d : Nat} (hD : 3 ≤ d) {x0 x1 x2 : Int} {M : MM} {r : Int × MM} (h : f_X9_take x0 x1 x2 M = some r) : Sem g d YX9_take 0 (ini YX9_take [(1, x0), (1, x1), (0, x2)]) [] M ((1, r.1), r.2) := by
  change Sem g d YX9_take 0 [(1, x0), (1, x1), (0, x2), (9, 0)] [] M ((1, r.1), r.2)
  exact s_X9_take_0 hD (P := fun x => x = r) (fun q e => by rw [e]) h rfl
