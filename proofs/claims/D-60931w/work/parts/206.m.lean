set_option maxRecDepth 100000
/-! PeerSearch$Publishing.over(LPeerSearch$Work;)V -/
theorem dX30_over_0 : decode cX30_over 0 = .ok (.aload_n 0, 1) := by decide +kernel
theorem dX30_over_1 : decode cX30_over 1 = .ok (.dup, 1) := by decide +kernel
theorem dX30_over_2 : decode cX30_over 2 = .ok (.getfield 48, 3) := by decide +kernel
theorem dX30_over_5 : decode cX30_over 5 = .ok (.iconst 1, 1) := by decide +kernel
theorem dX30_over_6 : decode cX30_over 6 = .ok (.isub, 1) := by decide +kernel
theorem dX30_over_7 : decode cX30_over 7 = .ok (.putfield 48, 3) := by decide +kernel
theorem dX30_over_10 : decode cX30_over 10 = .ok (.aload_n 1, 1) := by decide +kernel
theorem dX30_over_11 : decode cX30_over 11 = .ok (.getfield 80, 3) := by decide +kernel
theorem dX30_over_14 : decode cX30_over 14 = .ok (.ifnull 14, 3) := by decide +kernel
theorem dX30_over_17 : decode cX30_over 17 = .ok (.aload_n 1, 1) := by decide +kernel
theorem dX30_over_18 : decode cX30_over 18 = .ok (.getfield 80, 3) := by decide +kernel
theorem dX30_over_21 : decode cX30_over 21 = .ok (.aload_n 0, 1) := by decide +kernel
theorem dX30_over_22 : decode cX30_over 22 = .ok (.getfield 51, 3) := by decide +kernel
theorem dX30_over_25 : decode cX30_over 25 = .ok (.putfield 84, 3) := by decide +kernel
theorem dX30_over_28 : decode cX30_over 28 = .ok (.aload_n 0, 1) := by decide +kernel
theorem dX30_over_29 : decode cX30_over 29 = .ok (.getfield 48, 3) := by decide +kernel
theorem dX30_over_32 : decode cX30_over 32 = .ok (.ifCond .ne 15, 3) := by decide +kernel
theorem dX30_over_35 : decode cX30_over 35 = .ok (.aload_n 0, 1) := by decide +kernel
theorem dX30_over_36 : decode cX30_over 36 = .ok (.aload_n 1, 1) := by decide +kernel
theorem dX30_over_37 : decode cX30_over 37 = .ok (.invokevirtual 162, 3) := by decide +kernel
theorem dX30_over_40 : decode cX30_over 40 = .ok (.ifCond .eq 7, 3) := by decide +kernel
theorem dX30_over_43 : decode cX30_over 43 = .ok (.aload_n 1, 1) := by decide +kernel
theorem dX30_over_44 : decode cX30_over 44 = .ok (.invokevirtual 165, 3) := by decide +kernel
theorem dX30_over_47 : decode cX30_over 47 = .ok (.return_, 1) := by decide +kernel
def j_X30_over_47 (M : MM) : Option (MM) :=
  some M
def j_X30_over_28 (x0 x1 : Int) (M : MM) : Option (MM) :=
  (gfi 30 4 x0 M).bind fun v1 =>
  if w32 v1 = 0 then
    ck 30 x0 M <| (f_X30_next x0 x1 M).bind fun r1 =>
    if w32 r1.1 = 0 then
      j_X30_over_47 r1.2
    else
      ck 11 x1 r1.2 <| (f_X11_goOn x1 r1.2).bind fun M1 =>
      j_X30_over_47 M1
  else
    j_X30_over_47 M
def f_X30_over (x0 x1 : Int) (M : MM) : Option (MM) :=
  (gfi 30 4 x0 M).bind fun v1 =>
  (pfi 30 4 x0 (v1 - 1) M).bind fun M1 =>
  (gfr 11 4 x1 M1).bind fun v2 =>
  if v2 = -1 then
    j_X30_over_28 x0 x1 M1
  else
    (gfr 11 4 x1 M1).bind fun v3 =>
    (gfi 30 5 x0 M1).bind fun v4 =>
    (pfi 26 4 v3 v4 M1).bind fun M2 =>
    j_X30_over_28 x0 x1 M2
theorem s_X30_over_47 {g : GG} {d : Nat} (hD : 213 ≤ d) {M : MM} {o : AV × MM} {P : (MM) → Prop} (r0 : ∀ r : MM, P r → o = ((9, 0), r)) {z : MM} (h : j_X30_over_47 M = some z) (hz : P z) : Sem g d YX30_over 47 [(9, 0), (9, 0)] [] M o := by
  delta j_X30_over_47 at h
  obtain rfl := r0 _ (some_P (P := fun r => P r) h hz)
  exact S_return dX30_over_47 rfl
theorem s_X30_over_28 {g : GG} {d : Nat} (hD : 213 ≤ d) {x0 x1 : Int} {M : MM} {o : AV × MM} {P : (MM) → Prop} (r0 : ∀ r : MM, P r → o = ((9, 0), r)) {z : MM} (h : j_X30_over_28 x0 x1 M = some z) (hz : P z) : Sem g d YX30_over 28 [(1, x0), (1, x1)] [] M o := by
  delta j_X30_over_28 at h
  refine S_aload_n (i := 0) dX30_over_28 rfl rfl ?_
  refine P_gfi FLX30_48 rfl dX30_over_29 h (fun v1 h => ?_)
  refine P_if_ne (tgt := 47) dX30_over_32 rfl h (fun h => ?_) (fun h => ?_)
  · refine S_weak (ls' := [(9, 0), (9, 0)]) ⟨Or.inl rfl, ⟨Or.inl rfl, trivial⟩⟩ ?_
    exact s_X30_over_47 hD r0 h hz
  · refine S_aload_n (i := 0) dX30_over_35 rfl rfl ?_
    refine S_aload_n (i := 1) dX30_over_36 rfl rfl ?_
    refine P_invVe 0 [(1, x1)] [] CVX30_next MLX30_162 dX30_over_37 rfl rfl rfl rfl rfl (by omega) h (fun r h => F_X30_next (by omega) h) (fun r1 h => ?_)
    refine P_if_eq (tgt := 47) dX30_over_40 rfl h (fun h => ?_) (fun h => ?_)
    · refine S_weak (ls' := [(9, 0), (9, 0)]) ⟨Or.inl rfl, ⟨Or.inl rfl, trivial⟩⟩ ?_
      exact s_X30_over_47 hD r0 h hz
    · refine S_aload_n (i := 1) dX30_over_43 rfl rfl ?_
      refine P_invVm' [] [] CVX11_goOn MLX30_165 dX30_over_44 rfl rfl rfl rfl (by omega) h (fun r h => F_X11_goOn (by omega) h) (fun M1 h => ?_)
      refine S_weak (ls' := [(9, 0), (9, 0)]) ⟨Or.inl rfl, ⟨Or.inl rfl, trivial⟩⟩ ?_
      exact s_X30_over_47 hD r0 h hz
theorem s_X30_over_0 {g : GG} {d : Nat} (hD : 213 ≤ d) {x0 x1 : Int} {M : MM} {o : AV × MM} {P : (MM) → Prop} (r0 : ∀ r : MM, P r → o = ((9, 0), r)) {z : MM} (h : f_X30_over x0 x1 M = some z) (hz : P z) : Sem g d YX30_over 0 [(1, x0), (1, x1)] [] M o := by
  delta f_X30_over at h
  refine S_aload_n (i := 0) dX30_over_0 rfl rfl ?_
  refine S_dup dX30_over_1 (Nat.le_of_ble_eq_true rfl) ?_
  refine P_gfi FLX30_48 rfl dX30_over_2 h (fun v1 h => ?_)
  refine S_iconst dX30_over_5 rfl ?_
  refine S_isub dX30_over_6 ?_
  refine P_pfi FLX30_48 FPX30_48 rfl dX30_over_7 h (fun M1 h => ?_)
  refine S_aload_n (i := 1) dX30_over_10 rfl rfl ?_
  refine P_gfr FLX30_80 rfl dX30_over_11 h (fun v2 h => ?_)
  refine P_ifnull (tgt := 28) dX30_over_14 rfl h (fun h => ?_) (fun h => ?_)
  · exact s_X30_over_28 hD r0 h hz
  · refine S_aload_n (i := 1) dX30_over_17 rfl rfl ?_
    refine P_gfr FLX30_80 rfl dX30_over_18 h (fun v3 h => ?_)
    refine S_aload_n (i := 0) dX30_over_21 rfl rfl ?_
    refine P_gfi FLX30_51 rfl dX30_over_22 h (fun v4 h => ?_)
    refine P_pfi FLX30_84 FPX30_84 rfl dX30_over_25 h (fun M2 h => ?_)
    exact s_X30_over_28 hD r0 h hz
theorem F_X30_over {g : GG} {d : Nat} (hD : 213 ≤ d) {x0 x1 : Int} {M : MM} {r : MM} (h : f_X30_over x0 x1 M = some r) : Sem g d YX30_over 0 (ini YX30_over [(1, x0), (1, x1)]) [] M ((9, 0), r) := by
  change Sem g d YX30_over 0 [(1, x0), (1, x1)] [] M ((9, 0), r)
  exact s_X30_over_0 hD (P := fun x => x = r) (fun q e => by rw [e]) h rfl
/-! PeerSearch$Publishing.failed(LPeerSearch$Work;)V -/
theorem dX30_failed_0 : decode cX30_failed 0 = .ok (.aload_n 0, 1) := by decide +kernel
theorem dX30_failed_1 : decode cX30_failed 1 = .ok (.iconst 1, 1) := by decide +kernel
theorem dX30_failed_2 : decode cX30_failed 2 = .ok (.putfield 54, 3) := by decide +kernel
theorem dX30_failed_5 : decode cX30_failed 5 = .ok (.aload_n 0, 1) := by decide +kernel
theorem dX30_failed_6 : decode cX30_failed 6 = .ok (.aload_n 1, 1) := by decide +kernel
theorem dX30_failed_7 : decode cX30_failed 7 = .ok (.invokevirtual 168, 3) := by decide +kernel
theorem dX30_failed_10 : decode cX30_failed 10 = .ok (.return_, 1) := by decide +kernel
def f_X30_failed (x0 x1 : Int) (M : MM) : Option (MM) :=
  (pfz 30 6 x0 1 M).bind fun M1 =>
  ck 30 x0 M1 <| (f_X30_over x0 x1 M1).bind fun M2 =>
  some M2
theorem s_X30_failed_0 {g : GG} {d : Nat} (hD : 214 ≤ d) {x0 x1 : Int} {M : MM} {o : AV × MM} {P : (MM) → Prop} (r0 : ∀ r : MM, P r → o = ((9, 0), r)) {z : MM} (h : f_X30_failed x0 x1 M = some z) (hz : P z) : Sem g d YX30_failed 0 [(1, x0), (1, x1)] [] M o := by
  delta f_X30_failed at h
  refine S_aload_n (i := 0) dX30_failed_0 rfl rfl ?_
  refine S_iconst dX30_failed_1 rfl ?_
  refine P_pfz FLX30_54 FPX30_54 rfl dX30_failed_2 h (fun M1 h => ?_)
  refine S_aload_n (i := 0) dX30_failed_5 rfl rfl ?_
  refine S_aload_n (i := 1) dX30_failed_6 rfl rfl ?_
  refine P_invVm' [(1, x1)] [] CVX30_over MLX30_168 dX30_failed_7 rfl rfl rfl rfl (by omega) h (fun r h => F_X30_over (by omega) h) (fun M2 h => ?_)
  obtain rfl := r0 _ (some_P (P := fun r => P r) h hz)
  exact S_return dX30_failed_10 rfl
theorem F_X30_failed {g : GG} {d : Nat} (hD : 214 ≤ d) {x0 x1 : Int} {M : MM} {r : MM} (h : f_X30_failed x0 x1 M = some r) : Sem g d YX30_failed 0 (ini YX30_failed [(1, x0), (1, x1)]) [] M ((9, 0), r) := by
  change Sem g d YX30_failed 0 [(1, x0), (1, x1)] [] M ((9, 0), r)
  exact s_X30_failed_0 hD (P := fun x => x = r) (fun q e => by rw [e]) h rfl
/-! PeerSearch$Work.failed(ILPeerSearch$Key;)V -/
theorem dX11_failed_0 : decode cX11_failed 0 = .ok (.iload_n 1, 1) := by decide +kernel
theorem dX11_failed_1 : decode cX11_failed 1 = .ok (.iconst 1, 1) := by decide +kernel
theorem dX11_failed_2 : decode cX11_failed 2 = .ok (.if_icmp .ne 12, 3) := by decide +kernel
theorem dX11_failed_5 : decode cX11_failed 5 = .ok (.aload_n 0, 1) := by decide +kernel
theorem dX11_failed_6 : decode cX11_failed 6 = .ok (.getfield 71, 3) := by decide +kernel
theorem dX11_failed_9 : decode cX11_failed 9 = .ok (.aload_n 0, 1) := by decide +kernel
theorem dX11_failed_10 : decode cX11_failed 10 = .ok (.invokevirtual 205, 3) := by decide +kernel
theorem dX11_failed_13 : decode cX11_failed 13 = .ok (.return_, 1) := by decide +kernel
theorem dX11_failed_14 : decode cX11_failed 14 = .ok (.aload_n 0, 1) := by decide +kernel
theorem dX11_failed_15 : decode cX11_failed 15 = .ok (.getfield 47, 3) := by decide +kernel
theorem dX11_failed_18 : decode cX11_failed 18 = .ok (.dup, 1) := by decide +kernel
theorem dX11_failed_19 : decode cX11_failed 19 = .ok (.getfield 144, 3) := by decide +kernel
theorem dX11_failed_22 : decode cX11_failed 22 = .ok (.iconst 1, 1) := by decide +kernel
theorem dX11_failed_23 : decode cX11_failed 23 = .ok (.isub, 1) := by decide +kernel
theorem dX11_failed_24 : decode cX11_failed 24 = .ok (.putfield 144, 3) := by decide +kernel
theorem dX11_failed_27 : decode cX11_failed 27 = .ok (.aload_n 0, 1) := by decide +kernel
theorem dX11_failed_28 : decode cX11_failed 28 = .ok (.getfield 47, 3) := by decide +kernel
theorem dX11_failed_31 : decode cX11_failed 31 = .ok (.aload_n 2, 1) := by decide +kernel
theorem dX11_failed_32 : decode cX11_failed 32 = .ok (.invokevirtual 187, 3) := by decide +kernel
theorem dX11_failed_35 : decode cX11_failed 35 = .ok (.astore_n 3, 1) := by decide +kernel
theorem dX11_failed_36 : decode cX11_failed 36 = .ok (.aload_n 3, 1) := by decide +kernel
theorem dX11_failed_37 : decode cX11_failed 37 = .ok (.ifnull 8, 3) := by decide +kernel
theorem dX11_failed_40 : decode cX11_failed 40 = .ok (.aload_n 3, 1) := by decide +kernel
theorem dX11_failed_41 : decode cX11_failed 41 = .ok (.iconst 3, 1) := by decide +kernel
theorem dX11_failed_42 : decode cX11_failed 42 = .ok (.putfield 176, 3) := by decide +kernel
theorem dX11_failed_45 : decode cX11_failed 45 = .ok (.aload_n 0, 1) := by decide +kernel
theorem dX11_failed_46 : decode cX11_failed 46 = .ok (.invokevirtual 92, 3) := by decide +kernel
theorem dX11_failed_49 : decode cX11_failed 49 = .ok (.return_, 1) := by decide +kernel
def j_X11_failed_45 (x0 : Int) (M : MM) : Option (MM) :=
  ck 11 x0 M <| (f_X11_goOn x0 M).bind fun M1 =>
  some M1
def j_X11_failed_13 (M : MM) : Option (MM) :=
  some M
def f_X11_failed (x0 x1 x2 : Int) (M : MM) : Option (MM) :=
  if w32 x1 = w32 1 then
    (gfr 11 3 x0 M).bind fun v5 =>
    ckE 30 v5 M (Option.bind (f_X30_failed v5 x0 M) fun r => j_X11_failed_13 r) (ckE 31 v5 M (Option.bind (f_X31_failed v5 x0 M) fun r => j_X11_failed_13 r) (none))
  else
    (gfr 11 1 x0 M).bind fun v1 =>
    (gfi 15 4 v1 M).bind fun v2 =>
    (pfi 15 4 v1 (v2 - 1) M).bind fun M1 =>
    (gfr 11 1 x0 M1).bind fun v3 =>
    ck 15 v3 M1 <| (f_X15_find v3 x2 M1).bind fun v4 =>
    if v4 = -1 then
      j_X11_failed_45 x0 M1
    else
      (pfi 27 2 v4 3 M1).bind fun M2 =>
      j_X11_failed_45 x0 M2
theorem s_X11_failed_45 {g : GG} {d : Nat} (hD : 215 ≤ d) {x0 : Int} {M : MM} {o : AV × MM} {P : (MM) → Prop} (r0 : ∀ r : MM, P r → o = ((9, 0), r)) {z : MM} (h : j_X11_failed_45 x0 M = some z) (hz : P z) : Sem g d YX11_failed 45 [(1, x0), (9, 0), (9, 0), (9, 0)] [] M o := by
  delta j_X11_failed_45 at h
  refine S_aload_n (i := 0) dX11_failed_45 rfl rfl ?_
  refine P_invVm' [] [] CVX11_goOn MLX11_92 dX11_failed_46 rfl rfl rfl rfl (by omega) h (fun r h => F_X11_goOn (by omega) h) (fun M1 h => ?_)
  obtain rfl := r0 _ (some_P (P := fun r => P r) h hz)
  exact S_return dX11_failed_49 rfl
theorem s_X11_failed_13 {g : GG} {d : Nat} (hD : 215 ≤ d) {M : MM} {o : AV × MM} {P : (MM) → Prop} (r0 : ∀ r : MM, P r → o = ((9, 0), r)) {z : MM} (h : j_X11_failed_13 M = some z) (hz : P z) : Sem g d YX11_failed 13 [(9, 0), (9, 0), (9, 0), (9, 0)] [] M o := by
  delta j_X11_failed_13 at h
  obtain rfl := r0 _ (some_P (P := fun r => P r) h hz)
  exact S_return dX11_failed_13 rfl
theorem s_X11_failed_0 {g : GG} {d : Nat} (hD : 215 ≤ d) {x0 x1 x2 : Int} {M : MM} {o : AV × MM} {P : (MM) → Prop} (r0 : ∀ r : MM, P r → o = ((9, 0), r)) {z : MM} (h : f_X11_failed x0 x1 x2 M = some z) (hz : P z) : Sem g d YX11_failed 0 [(1, x0), (0, x1), (1, x2), (9, 0)] [] M o := by
  delta f_X11_failed at h
  refine S_iload_n (i := 1) dX11_failed_0 rfl rfl ?_
  refine S_iconst dX11_failed_1 rfl ?_
  refine P_icmp_ne (tgt := 14) dX11_failed_2 rfl h (fun h => ?_) (fun h => ?_)
  · refine S_aload_n (i := 0) dX11_failed_14 rfl rfl ?_
    refine P_gfr FLX11_47 rfl dX11_failed_15 h (fun v1 h => ?_)
    refine S_dup dX11_failed_18 (Nat.le_of_ble_eq_true rfl) ?_
    refine P_gfi FLX11_144 rfl dX11_failed_19 h (fun v2 h => ?_)
    refine S_iconst dX11_failed_22 rfl ?_
    refine S_isub dX11_failed_23 ?_
    refine P_pfi FLX11_144 FPX11_144 rfl dX11_failed_24 h (fun M1 h => ?_)
    refine S_aload_n (i := 0) dX11_failed_27 rfl rfl ?_
    refine P_gfr FLX11_47 rfl dX11_failed_28 h (fun v3 h => ?_)
    refine S_aload_n (i := 2) dX11_failed_31 rfl rfl ?_
    refine P_invVp 1 [(1, x2)] [] CVX15_find MLX11_187 dX11_failed_32 rfl rfl rfl rfl rfl (by omega) h (fun r h => F_X15_find (by omega) h) (fun v4 h => ?_)
    refine S_astore_n (i := 3) dX11_failed_35 rfl (Nat.le_of_ble_eq_true rfl) rfl rfl ?_
    change Sem g d YX11_failed 36 [(1, x0), (0, x1), (1, x2), (1, v4)] [] M1 o
    refine S_aload_n (i := 3) dX11_failed_36 rfl rfl ?_
    refine P_ifnull (tgt := 45) dX11_failed_37 rfl h (fun h => ?_) (fun h => ?_)
    · refine S_weak (ls' := [(1, x0), (9, 0), (9, 0), (9, 0)]) ⟨Or.inr rfl, ⟨Or.inl rfl, ⟨Or.inl rfl, ⟨Or.inl rfl, trivial⟩⟩⟩⟩ ?_
      exact s_X11_failed_45 hD r0 h hz
    · refine S_aload_n (i := 3) dX11_failed_40 rfl rfl ?_
      refine S_iconst dX11_failed_41 rfl ?_
      refine P_pfi FLX11_176 FPX11_176 rfl dX11_failed_42 h (fun M2 h => ?_)
      refine S_weak (ls' := [(1, x0), (9, 0), (9, 0), (9, 0)]) ⟨Or.inr rfl, ⟨Or.inl rfl, ⟨Or.inl rfl, ⟨Or.inl rfl, trivial⟩⟩⟩⟩ ?_
      exact s_X11_failed_45 hD r0 h hz
  · refine S_aload_n (i := 0) dX11_failed_5 rfl rfl ?_
    refine P_gfr FLX11_71 rfl dX11_failed_6 h (fun v5 h => ?_)
    refine S_aload_n (i := 0) dX11_failed_9 rfl rfl ?_
    rcases ckE_some h with h | h
    · refine P_invPm' [(1, x0)] [] CPX30_failed q1991 dX11_failed_10 rfl rfl rfl rfl (by omega) h (fun r h => F_X30_failed (by omega) h) (fun r h => ?_)
      refine S_weak (ls' := [(9, 0), (9, 0), (9, 0), (9, 0)]) ⟨Or.inl rfl, ⟨Or.inl rfl, ⟨Or.inl rfl, ⟨Or.inl rfl, trivial⟩⟩⟩⟩ ?_
      exact s_X11_failed_13 hD r0 h hz
    rcases ckE_some h with h | h
    · refine P_invPm' [(1, x0)] [] CPX31_failed q1991 dX11_failed_10 rfl rfl rfl rfl (by omega) h (fun r h => F_X31_failed (by omega) h) (fun r h => ?_)
      refine S_weak (ls' := [(9, 0), (9, 0), (9, 0), (9, 0)]) ⟨Or.inl rfl, ⟨Or.inl rfl, ⟨Or.inl rfl, ⟨Or.inl rfl, trivial⟩⟩⟩⟩ ?_
      exact s_X11_failed_13 hD r0 h hz
    cases h
theorem F_X11_failed {g : GG} {d : Nat} (hD : 215 ≤ d) {x0 x1 x2 : Int} {M : MM} {r : MM} (h : f_X11_failed x0 x1 x2 M = some r) : Sem g d YX11_failed 0 (ini YX11_failed [(1, x0), (0, x1), (1, x2)]) [] M ((9, 0), r) := by
  change Sem g d YX11_failed 0 [(1, x0), (0, x1), (1, x2), (9, 0)] [] M ((9, 0), r)
  exact s_X11_failed_0 hD (P := fun x => x = r) (fun q e => by rw [e]) h rfl
/-! PeerSearch$Peer.fail(I)V -/
theorem dX17_fail_0 : decode cX17_fail 0 = .ok (.aload_n 0, 1) := by decide +kernel
theorem dX17_fail_1 : decode cX17_fail 1 = .ok (.iload_n 1, 1) := by decide +kernel
theorem dX17_fail_2 : decode cX17_fail 2 = .ok (.invokevirtual 262, 3) := by decide +kernel
theorem dX17_fail_5 : decode cX17_fail 5 = .ok (.astore_n 2, 1) := by decide +kernel
theorem dX17_fail_6 : decode cX17_fail 6 = .ok (.aload_n 2, 1) := by decide +kernel
theorem dX17_fail_7 : decode cX17_fail 7 = .ok (.getfield 152, 3) := by decide +kernel
theorem dX17_fail_10 : decode cX17_fail 10 = .ok (.astore_n 3, 1) := by decide +kernel
theorem dX17_fail_11 : decode cX17_fail 11 = .ok (.aload_n 2, 1) := by decide +kernel
theorem dX17_fail_12 : decode cX17_fail 12 = .ok (.getfield 158, 3) := by decide +kernel
theorem dX17_fail_15 : decode cX17_fail 15 = .ok (.istore 4, 2) := by decide +kernel
theorem dX17_fail_17 : decode cX17_fail 17 = .ok (.aload_n 2, 1) := by decide +kernel
theorem dX17_fail_18 : decode cX17_fail 18 = .ok (.getfield 159, 3) := by decide +kernel
theorem dX17_fail_21 : decode cX17_fail 21 = .ok (.istore 5, 2) := by decide +kernel
theorem dX17_fail_23 : decode cX17_fail 23 = .ok (.aload_n 0, 1) := by decide +kernel
theorem dX17_fail_24 : decode cX17_fail 24 = .ok (.getfield 42, 3) := by decide +kernel
theorem dX17_fail_27 : decode cX17_fail 27 = .ok (.getfield 266, 3) := by decide +kernel
theorem dX17_fail_30 : decode cX17_fail 30 = .ok (.aload_n 2, 1) := by decide +kernel
theorem dX17_fail_31 : decode cX17_fail 31 = .ok (.getfield 131, 3) := by decide +kernel
theorem dX17_fail_34 : decode cX17_fail 34 = .ok (.invokevirtual 49, 3) := by decide +kernel
theorem dX17_fail_37 : decode cX17_fail 37 = .ok (.aload_n 0, 1) := by decide +kernel
theorem dX17_fail_38 : decode cX17_fail 38 = .ok (.getfield 67, 3) := by decide +kernel
theorem dX17_fail_41 : decode cX17_fail 41 = .ok (.aload_n 2, 1) := by decide +kernel
theorem dX17_fail_42 : decode cX17_fail 42 = .ok (.getfield 131, 3) := by decide +kernel
theorem dX17_fail_45 : decode cX17_fail 45 = .ok (.aload_n 2, 1) := by decide +kernel
theorem dX17_fail_46 : decode cX17_fail 46 = .ok (.getfield 132, 3) := by decide +kernel
theorem dX17_fail_49 : decode cX17_fail 49 = .ok (.invokevirtual 237, 3) := by decide +kernel
theorem dX17_fail_52 : decode cX17_fail 52 = .ok (.aload_n 3, 1) := by decide +kernel
theorem dX17_fail_53 : decode cX17_fail 53 = .ok (.ifnull 25, 3) := by decide +kernel
theorem dX17_fail_56 : decode cX17_fail 56 = .ok (.aload_n 3, 1) := by decide +kernel
theorem dX17_fail_57 : decode cX17_fail 57 = .ok (.getfield 155, 3) := by decide +kernel
theorem dX17_fail_60 : decode cX17_fail 60 = .ok (.iload 4, 2) := by decide +kernel
theorem dX17_fail_62 : decode cX17_fail 62 = .ok (.if_icmp .ne 16, 3) := by decide +kernel
theorem dX17_fail_65 : decode cX17_fail 65 = .ok (.aload_n 3, 1) := by decide +kernel
theorem dX17_fail_66 : decode cX17_fail 66 = .ok (.iload 5, 2) := by decide +kernel
theorem dX17_fail_68 : decode cX17_fail 68 = .ok (.aload_n 0, 1) := by decide +kernel
theorem dX17_fail_69 : decode cX17_fail 69 = .ok (.getfield 42, 3) := by decide +kernel
theorem dX17_fail_72 : decode cX17_fail 72 = .ok (.getfield 266, 3) := by decide +kernel
theorem dX17_fail_75 : decode cX17_fail 75 = .ok (.invokevirtual 374, 3) := by decide +kernel
theorem dX17_fail_78 : decode cX17_fail 78 = .ok (.return_, 1) := by decide +kernel
def j_X17_fail_78 (M : MM) : Option (MM) :=
  some M
def f_X17_fail (x0 x1 : Int) (M : MM) : Option (MM) :=
  ck 17 x0 M <| (f_X17_remove x0 x1 M).bind fun r1 =>
  (gfr 24 9 r1.1 r1.2).bind fun v1 =>
  (gfi 24 5 r1.1 r1.2).bind fun v2 =>
  (gfi 24 6 r1.1 r1.2).bind fun v3 =>
  (gfr 17 0 x0 r1.2).bind fun v4 =>
  (gfr 6 11 v4 r1.2).bind fun v5 =>
  (gfr 24 7 r1.1 r1.2).bind fun v6 =>
  ck 3 v5 r1.2 <| (f_X3_set v5 v6 r1.2).bind fun M1 =>
  (gfr 17 5 x0 M1).bind fun v7 =>
  (gfr 24 7 r1.1 M1).bind fun v8 =>
  (gfi 24 1 r1.1 M1).bind fun v9 =>
  ck 20 v7 M1 <| (f_X20_lose v7 v8 v9 M1).bind fun M2 =>
  if v1 = -1 then
    j_X17_fail_78 M2
  else
    (gfi 11 5 v1 M2).bind fun v10 =>
    if w32 v10 = w32 v2 then
      (gfr 17 0 x0 M2).bind fun v11 =>
      (gfr 6 11 v11 M2).bind fun v12 =>
      ck 11 v1 M2 <| (f_X11_failed v1 v3 v12 M2).bind fun M3 =>
      j_X17_fail_78 M3
    else
      j_X17_fail_78 M2
theorem s_X17_fail_78 {g : GG} {d : Nat} (hD : 216 ≤ d) {M : MM} {o : AV × MM} {P : (MM) → Prop} (r0 : ∀ r : MM, P r → o = ((9, 0), r)) {z : MM} (h : j_X17_fail_78 M = some z) (hz : P z) : Sem g d YX17_fail 78 [(9, 0), (9, 0), (9, 0), (9, 0), (9, 0), (9, 0)] [] M o := by
  delta j_X17_fail_78 at h
  obtain rfl := r0 _ (some_P (P := fun r => P r) h hz)
  exact S_return dX17_fail_78 rfl
theorem s_X17_fail_0 {g : GG} {d : Nat} (hD : 216 ≤ d) {x0 x1 : Int} {M : MM} {o : AV × MM} {P : (MM) → Prop} (r0 : ∀ r : MM, P r → o = ((9, 0), r)) {z : MM} (h : f_X17_fail x0 x1 M = some z) (hz : P z) : Sem g d YX17_fail 0 [(1, x0), (0, x1), (9, 0), (9, 0), (9, 0), (9, 0)] [] M o := by
  delta f_X17_fail at h
  refine S_aload_n (i := 0) dX17_fail_0 rfl rfl ?_
  refine S_iload_n (i := 1) dX17_fail_1 rfl rfl ?_
  refine P_invVe 1 [(0, x1)] [] CVX17_remove MLX17_262 dX17_fail_2 rfl rfl rfl rfl rfl (by omega) h (fun r h => F_X17_remove (by omega) h) (fun r1 h => ?_)
  refine S_astore_n (i := 2) dX17_fail_5 rfl (Nat.le_of_ble_eq_true rfl) rfl rfl ?_
  change Sem g d YX17_fail 6 [(1, x0), (0, x1), (1, r1.1), (9, 0), (9, 0), (9, 0)] [] r1.2 o
  refine S_aload_n (i := 2) dX17_fail_6 rfl rfl ?_
  refine P_gfr FLX17_152 rfl dX17_fail_7 h (fun v1 h => ?_)
  refine S_astore_n (i := 3) dX17_fail_10 rfl (Nat.le_of_ble_eq_true rfl) rfl rfl ?_
  change Sem g d YX17_fail 11 [(1, x0), (0, x1), (1, r1.1), (1, v1), (9, 0), (9, 0)] [] r1.2 o
  refine S_aload_n (i := 2) dX17_fail_11 rfl rfl ?_
  refine P_gfi FLX17_158 rfl dX17_fail_12 h (fun v2 h => ?_)
  refine S_istore dX17_fail_15 (Nat.le_of_ble_eq_true rfl) rfl rfl ?_
  change Sem g d YX17_fail 17 [(1, x0), (0, x1), (1, r1.1), (1, v1), (0, v2), (9, 0)] [] r1.2 o
  refine S_aload_n (i := 2) dX17_fail_17 rfl rfl ?_
  refine P_gfi FLX17_159 rfl dX17_fail_18 h (fun v3 h => ?_)
  refine S_istore dX17_fail_21 (Nat.le_of_ble_eq_true rfl) rfl rfl ?_
  change Sem g d YX17_fail 23 [(1, x0), (0, x1), (1, r1.1), (1, v1), (0, v2), (0, v3)] [] r1.2 o
  refine S_aload_n (i := 0) dX17_fail_23 rfl rfl ?_
  refine P_gfr FLX17_42 rfl dX17_fail_24 h (fun v4 h => ?_)
  refine P_gfr FLX17_266 rfl dX17_fail_27 h (fun v5 h => ?_)
  refine S_aload_n (i := 2) dX17_fail_30 rfl rfl ?_
  refine P_gfr FLX17_131 rfl dX17_fail_31 h (fun v6 h => ?_)
  refine P_invVm' [(1, v6)] [] CVX3_set MLX17_49 dX17_fail_34 rfl rfl rfl rfl (by omega) h (fun r h => F_X3_set (by omega) h) (fun M1 h => ?_)
  refine S_aload_n (i := 0) dX17_fail_37 rfl rfl ?_
  refine P_gfr FLX17_67 rfl dX17_fail_38 h (fun v7 h => ?_)
  refine S_aload_n (i := 2) dX17_fail_41 rfl rfl ?_
  refine P_gfr FLX17_131 rfl dX17_fail_42 h (fun v8 h => ?_)
  refine S_aload_n (i := 2) dX17_fail_45 rfl rfl ?_
  refine P_gfi FLX17_132 rfl dX17_fail_46 h (fun v9 h => ?_)
  refine P_invVm' [(1, v8), (0, v9)] [] CVX20_lose MLX17_237 dX17_fail_49 rfl rfl rfl rfl (by omega) h (fun r h => F_X20_lose (by omega) h) (fun M2 h => ?_)
  refine S_aload_n (i := 3) dX17_fail_52 rfl rfl ?_
  refine P_ifnull (tgt := 78) dX17_fail_53 rfl h (fun h => ?_) (fun h => ?_)
  · refine S_weak (ls' := [(9, 0), (9, 0), (9, 0), (9, 0), (9, 0), (9, 0)]) ⟨Or.inl rfl, ⟨Or.inl rfl, ⟨Or.inl rfl, ⟨Or.inl rfl, ⟨Or.inl rfl, ⟨Or.inl rfl, trivial⟩⟩⟩⟩⟩⟩ ?_
    exact s_X17_fail_78 hD r0 h hz
  · refine S_aload_n (i := 3) dX17_fail_56 rfl rfl ?_
    refine P_gfi FLX17_155 rfl dX17_fail_57 h (fun v10 h => ?_)
    refine S_iload dX17_fail_60 rfl ?_
    refine P_icmp_ne (tgt := 78) dX17_fail_62 rfl h (fun h => ?_) (fun h => ?_)
    · refine S_weak (ls' := [(9, 0), (9, 0), (9, 0), (9, 0), (9, 0), (9, 0)]) ⟨Or.inl rfl, ⟨Or.inl rfl, ⟨Or.inl rfl, ⟨Or.inl rfl, ⟨Or.inl rfl, ⟨Or.inl rfl, trivial⟩⟩⟩⟩⟩⟩ ?_
      exact s_X17_fail_78 hD r0 h hz
    · refine S_aload_n (i := 3) dX17_fail_65 rfl rfl ?_
      refine S_iload dX17_fail_66 rfl ?_
      refine S_aload_n (i := 0) dX17_fail_68 rfl rfl ?_
      refine P_gfr FLX17_42 rfl dX17_fail_69 h (fun v11 h => ?_)
      refine P_gfr FLX17_266 rfl dX17_fail_72 h (fun v12 h => ?_)
      refine P_invVm' [(0, v3), (1, v12)] [] CVX11_failed MLX17_374 dX17_fail_75 rfl rfl rfl rfl (by omega) h (fun r h => F_X11_failed (by omega) h) (fun M3 h => ?_)
      refine S_weak (ls' := [(9, 0), (9, 0), (9, 0), (9, 0), (9, 0), (9, 0)]) ⟨Or.inl rfl, ⟨Or.inl rfl, ⟨Or.inl rfl, ⟨Or.inl rfl, ⟨Or.inl rfl, ⟨Or.inl rfl, trivial⟩⟩⟩⟩⟩⟩ ?_
      exact s_X17_fail_78 hD r0 h hz
theorem F_X17_fail {g : GG} {d : Nat} (hD : 216 ≤ d) {x0 x1 : Int} {M : MM} {r : MM} (h : f_X17_fail x0 x1 M = some r) : Sem g d YX17_fail 0 (ini YX17_fail [(1, x0), (0, x1)]) [] M ((9, 0), r) := by
  change Sem g d YX17_fail 0 [(1, x0), (0, x1), (9, 0), (9, 0), (9, 0), (9, 0)] [] M ((9, 0), r)
  exact s_X17_fail_0 hD (P := fun x => x = r) (fun q e => by rw [e]) h rfl
/-! PeerSearch$Peer.find(I)I -/
theorem dX17_find_0 : decode cX17_find 0 = .ok (.iconst 0, 1) := by decide +kernel
theorem dX17_find_1 : decode cX17_find 1 = .ok (.istore_n 2, 1) := by decide +kernel
theorem dX17_find_2 : decode cX17_find 2 = .ok (.iload_n 2, 1) := by decide +kernel
theorem dX17_find_3 : decode cX17_find 3 = .ok (.aload_n 0, 1) := by decide +kernel
theorem dX17_find_4 : decode cX17_find 4 = .ok (.getfield 101, 3) := by decide +kernel
theorem dX17_find_7 : decode cX17_find 7 = .ok (.if_icmp .ge 24, 3) := by decide +kernel
theorem dX17_find_10 : decode cX17_find 10 = .ok (.aload_n 0, 1) := by decide +kernel
theorem dX17_find_11 : decode cX17_find 11 = .ok (.getfield 34, 3) := by decide +kernel
theorem dX17_find_14 : decode cX17_find 14 = .ok (.iload_n 2, 1) := by decide +kernel
theorem dX17_find_15 : decode cX17_find 15 = .ok (.aaload, 1) := by decide +kernel
theorem dX17_find_16 : decode cX17_find 16 = .ok (.getfield 130, 3) := by decide +kernel
theorem dX17_find_19 : decode cX17_find 19 = .ok (.iload_n 1, 1) := by decide +kernel
theorem dX17_find_20 : decode cX17_find 20 = .ok (.if_icmp .ne 5, 3) := by decide +kernel
theorem dX17_find_23 : decode cX17_find 23 = .ok (.iload_n 2, 1) := by decide +kernel
theorem dX17_find_24 : decode cX17_find 24 = .ok (.ireturn, 1) := by decide +kernel
theorem dX17_find_25 : decode cX17_find 25 = .ok (.iinc 2 1, 3) := by decide +kernel
theorem dX17_find_28 : decode cX17_find 28 = .ok (.goto (-26), 3) := by decide +kernel
theorem dX17_find_31 : decode cX17_find 31 = .ok (.iconst (-1), 1) := by decide +kernel
theorem dX17_find_32 : decode cX17_find 32 = .ok (.ireturn, 1) := by decide +kernel
def b_X17_find_2 (x0 x1 x2 : Int) (M : MM) : Option ((Int) ⊕ (Int)) :=
  (gfi 17 9 x0 M).bind fun v1 =>
  if w32 x2 < w32 v1 then
    (gfr 17 8 x0 M).bind fun v2 =>
    (lar 11 v2 x2 M).bind fun v3 =>
    (gfi 24 0 v3 M).bind fun v4 =>
    if w32 v4 = w32 x1 then
      xit (some x2)
    else
      cnt (x2 + 1)
  else
    xit (some (-1))
def l_X17_find_2 (x0 x1 x2 : Int) (M : MM) : Option (Int) := lpN (fun s : Int => b_X17_find_2 x0 x1 s M) FU x2
def f_X17_find (x0 x1 : Int) (M : MM) : Option (Int) :=
  l_X17_find_2 x0 x1 0 M
theorem s_X17_find_2 {g : GG} {d : Nat} (hD : 0 ≤ d) {x0 x1 x2 : Int} {M : MM} {o : AV × MM} {P : ((Int) ⊕ (Int)) → Prop} (c0 : ∀ s : Int, P (.inl s) → Sem g d YX17_find 2 [(1, x0), (0, x1), (0, s)] [] M o) (r0 : ∀ r : Int, P (.inr r) → o = ((0, r), M)) {z : (Int) ⊕ (Int)} (h : b_X17_find_2 x0 x1 x2 M = some z) (hz : P z) : Sem g d YX17_find 2 [(1, x0), (0, x1), (0, x2)] [] M o := by
  delta b_X17_find_2 at h
  refine S_iload_n (i := 2) dX17_find_2 rfl rfl ?_
  refine S_aload_n (i := 0) dX17_find_3 rfl rfl ?_
  refine P_gfi FLX17_101 rfl dX17_find_4 h (fun v1 h => ?_)
  refine P_icmp_ge (tgt := 31) dX17_find_7 rfl h (fun h => ?_) (fun h => ?_)
  · obtain ⟨z0, h, hz⟩ := xit_some' (P := fun r => P r) h hz
    refine S_iconst dX17_find_31 rfl ?_
    obtain rfl := r0 _ (some_P (P := fun r => P (.inr r)) h hz)
    exact P_ret dX17_find_32 rfl (Or.inl rfl)
  · refine S_aload_n (i := 0) dX17_find_10 rfl rfl ?_
    refine P_gfr FLX17_34 rfl dX17_find_11 h (fun v2 h => ?_)
    refine S_iload_n (i := 2) dX17_find_14 rfl rfl ?_
    refine P_lar (t := 11) ⟨by decide, by decide⟩ dX17_find_15 h (fun v3 h => ?_)
    refine P_gfi FLX17_130 rfl dX17_find_16 h (fun v4 h => ?_)
    refine S_iload_n (i := 1) dX17_find_19 rfl rfl ?_
    refine P_icmp_ne (tgt := 25) dX17_find_20 rfl h (fun h => ?_) (fun h => ?_)
    · refine S_iinc dX17_find_25 rfl rfl rfl ?_
      change Sem g d YX17_find 28 [(1, x0), (0, x1), (0, x2 + 1)] [] M o
      refine S_goto (tgt := 2) dX17_find_28 rfl ?_
      exact c0 (x2 + 1) (some_P (P := fun r => P r) h hz)
    · obtain ⟨z0, h, hz⟩ := xit_some' (P := fun r => P r) h hz
      refine S_iload_n (i := 2) dX17_find_23 rfl rfl ?_
      obtain rfl := r0 _ (some_P (P := fun r => P (.inr r)) h hz)
      exact P_ret dX17_find_24 rfl (Or.inl rfl)
theorem sl_X17_find_2 {g : GG} {d : Nat} (hD : 0 ≤ d) {x0 x1 x2 : Int} {M : MM} {o : AV × MM} {P : (Int) → Prop} (r0 : ∀ r : Int, P r → o = ((0, r), M)) {z : Int} (h : l_X17_find_2 x0 x1 x2 M = some z) (hz : P z) : Sem g d YX17_find 2 [(1, x0), (0, x1), (0, x2)] [] M o := by
  refine lp_sound (S := fun s : Int => Sem g d YX17_find 2 [(1, x0), (0, x1), (0, s)] [] M o) (P := P) ?_ FU x2 z h hz
  intro s x hx hP
  exact s_X17_find_2 hD (P := Sum.elim (fun s : Int => Sem g d YX17_find 2 [(1, x0), (0, x1), (0, s)] [] M o) P) (fun s h => h) (fun s h => r0 s h) hx hP
theorem s_X17_find_0 {g : GG} {d : Nat} (hD : 0 ≤ d) {x0 x1 : Int} {M : MM} {o : AV × MM} {P : (Int) → Prop} (r0 : ∀ r : Int, P r → o = ((0, r), M)) {z : Int} (h : f_X17_find x0 x1 M = some z) (hz : P z) : Sem g d YX17_find 0 [(1, x0), (0, x1), (9, 0)] [] M o := by
  delta f_X17_find at h
  refine S_iconst dX17_find_0 rfl ?_
  refine S_istore_n (i := 2) dX17_find_1 rfl (Nat.le_of_ble_eq_true rfl) rfl rfl ?_
  change Sem g d YX17_find 2 [(1, x0), (0, x1), (0, 0)] [] M o
  exact sl_X17_find_2 hD r0 h hz
theorem F_X17_find {g : GG} {d : Nat} (hD : 0 ≤ d) {x0 x1 : Int} {M : MM} {r : Int} (h : f_X17_find x0 x1 M = some r) : Sem g d YX17_find 0 (ini YX17_find [(1, x0), (0, x1)]) [] M ((0, r), M) := by
  change Sem g d YX17_find 0 [(1, x0), (0, x1), (9, 0)] [] M ((0, r), M)
  exact s_X17_find_0 hD (P := fun x => x = r) (fun q e => by rw [e]) h rfl
/-! PeerSearch$Peer.runOut()V -/
theorem dX17_runOut_0 : decode cX17_runOut 0 = .ok (.iconst 0, 1) := by decide +kernel
theorem dX17_runOut_1 : decode cX17_runOut 1 = .ok (.istore_n 1, 1) := by decide +kernel
theorem dX17_runOut_2 : decode cX17_runOut 2 = .ok (.iconst 0, 1) := by decide +kernel
theorem dX17_runOut_3 : decode cX17_runOut 3 = .ok (.istore_n 2, 1) := by decide +kernel
theorem dX17_runOut_4 : decode cX17_runOut 4 = .ok (.iload_n 2, 1) := by decide +kernel
theorem dX17_runOut_5 : decode cX17_runOut 5 = .ok (.aload_n 0, 1) := by decide +kernel
theorem dX17_runOut_6 : decode cX17_runOut 6 = .ok (.getfield 101, 3) := by decide +kernel
theorem dX17_runOut_9 : decode cX17_runOut 9 = .ok (.if_icmp .ge 55, 3) := by decide +kernel
theorem dX17_runOut_12 : decode cX17_runOut 12 = .ok (.aload_n 0, 1) := by decide +kernel
theorem dX17_runOut_13 : decode cX17_runOut 13 = .ok (.getfield 34, 3) := by decide +kernel
theorem dX17_runOut_16 : decode cX17_runOut 16 = .ok (.iload_n 2, 1) := by decide +kernel
theorem dX17_runOut_17 : decode cX17_runOut 17 = .ok (.aaload, 1) := by decide +kernel
theorem dX17_runOut_18 : decode cX17_runOut 18 = .ok (.getfield 175, 3) := by decide +kernel
theorem dX17_runOut_21 : decode cX17_runOut 21 = .ok (.aload_n 0, 1) := by decide +kernel
theorem dX17_runOut_22 : decode cX17_runOut 22 = .ok (.getfield 42, 3) := by decide +kernel
theorem dX17_runOut_25 : decode cX17_runOut 25 = .ok (.getfield 83, 3) := by decide +kernel
theorem dX17_runOut_28 : decode cX17_runOut 28 = .ok (.getfield 87, 3) := by decide +kernel
theorem dX17_runOut_31 : decode cX17_runOut 31 = .ok (.if_icmp .le 6, 3) := by decide +kernel
theorem dX17_runOut_34 : decode cX17_runOut 34 = .ok (.goto 24, 3) := by decide +kernel
theorem dX17_runOut_37 : decode cX17_runOut 37 = .ok (.aload_n 0, 1) := by decide +kernel
theorem dX17_runOut_38 : decode cX17_runOut 38 = .ok (.getfield 42, 3) := by decide +kernel
theorem dX17_runOut_41 : decode cX17_runOut 41 = .ok (.getfield 366, 3) := by decide +kernel
theorem dX17_runOut_44 : decode cX17_runOut 44 = .ok (.iload_n 1, 1) := by decide +kernel
theorem dX17_runOut_45 : decode cX17_runOut 45 = .ok (.aload_n 0, 1) := by decide +kernel
theorem dX17_runOut_46 : decode cX17_runOut 46 = .ok (.getfield 34, 3) := by decide +kernel
theorem dX17_runOut_49 : decode cX17_runOut 49 = .ok (.iload_n 2, 1) := by decide +kernel
theorem dX17_runOut_50 : decode cX17_runOut 50 = .ok (.aaload, 1) := by decide +kernel
theorem dX17_runOut_51 : decode cX17_runOut 51 = .ok (.getfield 130, 3) := by decide +kernel
theorem dX17_runOut_54 : decode cX17_runOut 54 = .ok (.iastore, 1) := by decide +kernel
theorem dX17_runOut_55 : decode cX17_runOut 55 = .ok (.iinc 1 1, 3) := by decide +kernel
theorem dX17_runOut_58 : decode cX17_runOut 58 = .ok (.iinc 2 1, 3) := by decide +kernel
theorem dX17_runOut_61 : decode cX17_runOut 61 = .ok (.goto (-57), 3) := by decide +kernel
theorem dX17_runOut_64 : decode cX17_runOut 64 = .ok (.iconst 0, 1) := by decide +kernel
theorem dX17_runOut_65 : decode cX17_runOut 65 = .ok (.istore_n 2, 1) := by decide +kernel
theorem dX17_runOut_66 : decode cX17_runOut 66 = .ok (.iload_n 2, 1) := by decide +kernel
theorem dX17_runOut_67 : decode cX17_runOut 67 = .ok (.iload_n 1, 1) := by decide +kernel
theorem dX17_runOut_68 : decode cX17_runOut 68 = .ok (.if_icmp .ge 72, 3) := by decide +kernel
theorem dX17_runOut_71 : decode cX17_runOut 71 = .ok (.aload_n 0, 1) := by decide +kernel
theorem dX17_runOut_72 : decode cX17_runOut 72 = .ok (.aload_n 0, 1) := by decide +kernel
theorem dX17_runOut_73 : decode cX17_runOut 73 = .ok (.getfield 42, 3) := by decide +kernel
theorem dX17_runOut_76 : decode cX17_runOut 76 = .ok (.getfield 366, 3) := by decide +kernel
theorem dX17_runOut_79 : decode cX17_runOut 79 = .ok (.iload_n 2, 1) := by decide +kernel
theorem dX17_runOut_80 : decode cX17_runOut 80 = .ok (.iaload, 1) := by decide +kernel
theorem dX17_runOut_81 : decode cX17_runOut 81 = .ok (.invokevirtual 252, 3) := by decide +kernel
theorem dX17_runOut_84 : decode cX17_runOut 84 = .ok (.istore_n 3, 1) := by decide +kernel
theorem dX17_runOut_85 : decode cX17_runOut 85 = .ok (.iload_n 3, 1) := by decide +kernel
theorem dX17_runOut_86 : decode cX17_runOut 86 = .ok (.iconst (-1), 1) := by decide +kernel
theorem dX17_runOut_87 : decode cX17_runOut 87 = .ok (.if_icmp .ne 6, 3) := by decide +kernel
theorem dX17_runOut_90 : decode cX17_runOut 90 = .ok (.goto 44, 3) := by decide +kernel
theorem dX17_runOut_93 : decode cX17_runOut 93 = .ok (.aload_n 0, 1) := by decide +kernel
theorem dX17_runOut_94 : decode cX17_runOut 94 = .ok (.getfield 34, 3) := by decide +kernel
theorem dX17_runOut_97 : decode cX17_runOut 97 = .ok (.iload_n 3, 1) := by decide +kernel
theorem dX17_runOut_98 : decode cX17_runOut 98 = .ok (.aaload, 1) := by decide +kernel
theorem dX17_runOut_99 : decode cX17_runOut 99 = .ok (.getfield 166, 3) := by decide +kernel
theorem dX17_runOut_102 : decode cX17_runOut 102 = .ok (.aload_n 0, 1) := by decide +kernel
theorem dX17_runOut_103 : decode cX17_runOut 103 = .ok (.getfield 42, 3) := by decide +kernel
theorem dX17_runOut_106 : decode cX17_runOut 106 = .ok (.getfield 83, 3) := by decide +kernel
theorem dX17_runOut_109 : decode cX17_runOut 109 = .ok (.iconst 5, 1) := by decide +kernel
theorem dX17_runOut_110 : decode cX17_runOut 110 = .ok (.invokevirtual 171, 3) := by decide +kernel
theorem dX17_runOut_113 : decode cX17_runOut 113 = .ok (.if_icmp .gt 16, 3) := by decide +kernel
theorem dX17_runOut_116 : decode cX17_runOut 116 = .ok (.aload_n 0, 1) := by decide +kernel
theorem dX17_runOut_117 : decode cX17_runOut 117 = .ok (.aload_n 0, 1) := by decide +kernel
theorem dX17_runOut_118 : decode cX17_runOut 118 = .ok (.getfield 34, 3) := by decide +kernel
theorem dX17_runOut_121 : decode cX17_runOut 121 = .ok (.iload_n 3, 1) := by decide +kernel
theorem dX17_runOut_122 : decode cX17_runOut 122 = .ok (.aaload, 1) := by decide +kernel
theorem dX17_runOut_123 : decode cX17_runOut 123 = .ok (.invokevirtual 167, 3) := by decide +kernel
theorem dX17_runOut_126 : decode cX17_runOut 126 = .ok (.goto 8, 3) := by decide +kernel
theorem dX17_runOut_129 : decode cX17_runOut 129 = .ok (.aload_n 0, 1) := by decide +kernel
theorem dX17_runOut_130 : decode cX17_runOut 130 = .ok (.iload_n 3, 1) := by decide +kernel
theorem dX17_runOut_131 : decode cX17_runOut 131 = .ok (.invokevirtual 370, 3) := by decide +kernel
theorem dX17_runOut_134 : decode cX17_runOut 134 = .ok (.iinc 2 1, 3) := by decide +kernel
theorem dX17_runOut_137 : decode cX17_runOut 137 = .ok (.goto (-71), 3) := by decide +kernel
theorem dX17_runOut_140 : decode cX17_runOut 140 = .ok (.return_, 1) := by decide +kernel
def j_X17_runOut_134 (x0 x1 x2 : Int) (M : MM) : Option ((Int × MM) ⊕ (MM)) :=
  cnt (x2 + 1, M)
def b_X17_runOut_66 (x0 x1 x2 : Int) (M : MM) : Option ((Int × MM) ⊕ (MM)) :=
  if w32 x2 < w32 x1 then
    (gfr 17 0 x0 M).bind fun v1 =>
    (gfr 6 14 v1 M).bind fun v2 =>
    (lai v2 x2 M).bind fun v3 =>
    ck 17 x0 M <| (f_X17_find x0 v3 M).bind fun v4 =>
    if w32 v4 = w32 (-1) then
      j_X17_runOut_134 x0 x1 x2 M
    else
      (gfr 17 8 x0 M).bind fun v5 =>
      (lar 11 v5 v4 M).bind fun v6 =>
      (gfi 24 4 v6 M).bind fun v7 =>
      (gfr 17 0 x0 M).bind fun v8 =>
      (gfr 6 2 v8 M).bind fun v9 =>
      ck 7 v9 M <| (f_X7_setting v9 5 M).bind fun v10 =>
      if w32 v10 < w32 v7 then
        ck 17 x0 M <| (f_X17_fail x0 v4 M).bind fun M1 =>
        j_X17_runOut_134 x0 x1 x2 M1
      else
        (gfr 17 8 x0 M).bind fun v11 =>
        (lar 11 v11 v4 M).bind fun v12 =>
        ck 17 x0 M <| (f_X17_sendAgain x0 v12 M).bind fun M2 =>
        j_X17_runOut_134 x0 x1 x2 M2
  else
    xit (some M)
def l_X17_runOut_66 (x0 x1 x2 : Int) (M : MM) : Option (MM) := lpN (fun s : Int × MM => b_X17_runOut_66 x0 x1 s.1 s.2) FU (x2, M)
def j_X17_runOut_64 (x0 x1 : Int) (M : MM) : Option (MM) :=
  l_X17_runOut_66 x0 x1 0 M
def j_X17_runOut_58 (x0 x1 x2 : Int) (M : MM) : Option ((Int × Int × MM) ⊕ (MM)) :=
  cnt (x1, x2 + 1, M)
def b_X17_runOut_4 (x0 x1 x2 : Int) (M : MM) : Option ((Int × Int × MM) ⊕ (MM)) :=
  (gfi 17 9 x0 M).bind fun v1 =>
  if w32 x2 < w32 v1 then
    (gfr 17 8 x0 M).bind fun v2 =>
    (lar 11 v2 x2 M).bind fun v3 =>
    (gfi 24 3 v3 M).bind fun v4 =>
    (gfr 17 0 x0 M).bind fun v5 =>
    (gfr 6 2 v5 M).bind fun v6 =>
    (gfi 7 3 v6 M).bind fun v7 =>
    if w32 v7 < w32 v4 then
      j_X17_runOut_58 x0 x1 x2 M
    else
      (gfr 17 0 x0 M).bind fun v8 =>
      (gfr 6 14 v8 M).bind fun v9 =>
      (gfr 17 8 x0 M).bind fun v10 =>
      (lar 11 v10 x2 M).bind fun v11 =>
      (gfi 24 0 v11 M).bind fun v12 =>
      (sai v9 x1 v12 M).bind fun M1 =>
      j_X17_runOut_58 x0 (x1 + 1) x2 M1
  else
    xit (j_X17_runOut_64 x0 x1 M)
def l_X17_runOut_4 (x0 x1 x2 : Int) (M : MM) : Option (MM) := lpN (fun s : Int × Int × MM => b_X17_runOut_4 x0 s.1 s.2.1 s.2.2) FU (x1, x2, M)
def f_X17_runOut (x0 : Int) (M : MM) : Option (MM) :=
  l_X17_runOut_4 x0 0 0 M
theorem s_X17_runOut_134 {g : GG} {d : Nat} (hD : 217 ≤ d) {x0 x1 x2 : Int} {M : MM} {o : AV × MM} {P : ((Int × MM) ⊕ (MM)) → Prop} (c0 : ∀ s : Int × MM, P (.inl s) → Sem g d YX17_runOut 66 [(1, x0), (0, x1), (0, s.1), (9, 0)] [] s.2 o) (r0 : ∀ r : MM, P (.inr r) → o = ((9, 0), r)) {z : (Int × MM) ⊕ (MM)} (h : j_X17_runOut_134 x0 x1 x2 M = some z) (hz : P z) : Sem g d YX17_runOut 134 [(1, x0), (0, x1), (0, x2), (9, 0)] [] M o := by
  delta j_X17_runOut_134 at h
  refine S_iinc dX17_runOut_134 rfl rfl rfl ?_
  change Sem g d YX17_runOut 137 [(1, x0), (0, x1), (0, x2 + 1), (9, 0)] [] M o
  refine S_goto (tgt := 66) dX17_runOut_137 rfl ?_
  exact c0 (x2 + 1, M) (some_P (P := fun r => P r) h hz)
theorem s_X17_runOut_66 {g : GG} {d : Nat} (hD : 217 ≤ d) {x0 x1 x2 : Int} {M : MM} {o : AV × MM} {P : ((Int × MM) ⊕ (MM)) → Prop} (c0 : ∀ s : Int × MM, P (.inl s) → Sem g d YX17_runOut 66 [(1, x0), (0, x1), (0, s.1), (9, 0)] [] s.2 o) (r0 : ∀ r : MM, P (.inr r) → o = ((9, 0), r)) {z : (Int × MM) ⊕ (MM)} (h : b_X17_runOut_66 x0 x1 x2 M = some z) (hz : P z) : Sem g d YX17_runOut 66 [(1, x0), (0, x1), (0, x2), (9, 0)] [] M o := by
  delta b_X17_runOut_66 at h
  refine S_iload_n (i := 2) dX17_runOut_66 rfl rfl ?_
  refine S_iload_n (i := 1) dX17_runOut_67 rfl rfl ?_
  refine P_icmp_ge (tgt := 140) dX17_runOut_68 rfl h (fun h => ?_) (fun h => ?_)
  · obtain ⟨z0, h, hz⟩ := xit_some' (P := fun r => P r) h hz
    obtain rfl := r0 _ (some_P (P := fun r => P (.inr r)) h hz)
    exact S_return dX17_runOut_140 rfl
  · refine S_aload_n (i := 0) dX17_runOut_71 rfl rfl ?_
    refine S_aload_n (i := 0) dX17_runOut_72 rfl rfl ?_
    refine P_gfr FLX17_42 rfl dX17_runOut_73 h (fun v1 h => ?_)
    refine P_gfr FLX17_366 rfl dX17_runOut_76 h (fun v2 h => ?_)
    refine S_iload_n (i := 2) dX17_runOut_79 rfl rfl ?_
    refine P_lai dX17_runOut_80 h (fun v3 h => ?_)
    refine P_invVp 0 [(0, v3)] [] CVX17_find MLX17_252 dX17_runOut_81 rfl rfl rfl rfl rfl (by omega) h (fun r h => F_X17_find (by omega) h) (fun v4 h => ?_)
    refine S_istore_n (i := 3) dX17_runOut_84 rfl (Nat.le_of_ble_eq_true rfl) rfl rfl ?_
    change Sem g d YX17_runOut 85 [(1, x0), (0, x1), (0, x2), (0, v4)] [] M o
    refine S_iload_n (i := 3) dX17_runOut_85 rfl rfl ?_
    refine S_iconst dX17_runOut_86 rfl ?_
    refine P_icmp_ne (tgt := 93) dX17_runOut_87 rfl h (fun h => ?_) (fun h => ?_)
    · refine S_aload_n (i := 0) dX17_runOut_93 rfl rfl ?_
      refine P_gfr FLX17_34 rfl dX17_runOut_94 h (fun v5 h => ?_)
      refine S_iload_n (i := 3) dX17_runOut_97 rfl rfl ?_
      refine P_lar (t := 11) ⟨by decide, by decide⟩ dX17_runOut_98 h (fun v6 h => ?_)
      refine P_gfi FLX17_166 rfl dX17_runOut_99 h (fun v7 h => ?_)
      refine S_aload_n (i := 0) dX17_runOut_102 rfl rfl ?_
      refine P_gfr FLX17_42 rfl dX17_runOut_103 h (fun v8 h => ?_)
      refine P_gfr FLX17_83 rfl dX17_runOut_106 h (fun v9 h => ?_)
      refine S_iconst dX17_runOut_109 rfl ?_
      refine P_invVp 0 [(0, 5)] [(0, v7)] CVX7_setting MLX17_171 dX17_runOut_110 rfl rfl rfl rfl rfl (by omega) h (fun r h => F_X7_setting (by omega) h) (fun v10 h => ?_)
      refine P_icmp_gt (tgt := 129) dX17_runOut_113 rfl h (fun h => ?_) (fun h => ?_)
      · refine S_aload_n (i := 0) dX17_runOut_129 rfl rfl ?_
        refine S_iload_n (i := 3) dX17_runOut_130 rfl rfl ?_
        refine P_invVm' [(0, v4)] [] CVX17_fail MLX17_370 dX17_runOut_131 rfl rfl rfl rfl (by omega) h (fun r h => F_X17_fail (by omega) h) (fun M1 h => ?_)
        refine S_weak (ls' := [(1, x0), (0, x1), (0, x2), (9, 0)]) ⟨Or.inr rfl, ⟨Or.inr rfl, ⟨Or.inr rfl, ⟨Or.inl rfl, trivial⟩⟩⟩⟩ ?_
        exact s_X17_runOut_134 hD c0 r0 h hz
      · refine S_aload_n (i := 0) dX17_runOut_116 rfl rfl ?_
        refine S_aload_n (i := 0) dX17_runOut_117 rfl rfl ?_
        refine P_gfr FLX17_34 rfl dX17_runOut_118 h (fun v11 h => ?_)
        refine S_iload_n (i := 3) dX17_runOut_121 rfl rfl ?_
        refine P_lar (t := 11) ⟨by decide, by decide⟩ dX17_runOut_122 h (fun v12 h => ?_)
        refine P_invVm' [(1, v12)] [] CVX17_sendAgain MLX17_167 dX17_runOut_123 rfl rfl rfl rfl (by omega) h (fun r h => F_X17_sendAgain (by omega) h) (fun M2 h => ?_)
        refine S_goto (tgt := 134) dX17_runOut_126 rfl ?_
        refine S_weak (ls' := [(1, x0), (0, x1), (0, x2), (9, 0)]) ⟨Or.inr rfl, ⟨Or.inr rfl, ⟨Or.inr rfl, ⟨Or.inl rfl, trivial⟩⟩⟩⟩ ?_
        exact s_X17_runOut_134 hD c0 r0 h hz
    · refine S_goto (tgt := 134) dX17_runOut_90 rfl ?_
      refine S_weak (ls' := [(1, x0), (0, x1), (0, x2), (9, 0)]) ⟨Or.inr rfl, ⟨Or.inr rfl, ⟨Or.inr rfl, ⟨Or.inl rfl, trivial⟩⟩⟩⟩ ?_
      exact s_X17_runOut_134 hD c0 r0 h hz
theorem sl_X17_runOut_66 {g : GG} {d : Nat} (hD : 217 ≤ d) {x0 x1 x2 : Int} {M : MM} {o : AV × MM} {P : (MM) → Prop} (r0 : ∀ r : MM, P r → o = ((9, 0), r)) {z : MM} (h : l_X17_runOut_66 x0 x1 x2 M = some z) (hz : P z) : Sem g d YX17_runOut 66 [(1, x0), (0, x1), (0, x2), (9, 0)] [] M o := by
  refine lp_sound (S := fun s : Int × MM => Sem g d YX17_runOut 66 [(1, x0), (0, x1), (0, s.1), (9, 0)] [] s.2 o) (P := P) ?_ FU (x2, M) z h hz
  intro s x hx hP
  exact s_X17_runOut_66 hD (P := Sum.elim (fun s : Int × MM => Sem g d YX17_runOut 66 [(1, x0), (0, x1), (0, s.1), (9, 0)] [] s.2 o) P) (fun s h => h) (fun s h => r0 s h) hx hP
theorem s_X17_runOut_64 {g : GG} {d : Nat} (hD : 217 ≤ d) {x0 x1 : Int} {M : MM} {o : AV × MM} {P : (MM) → Prop} (r0 : ∀ r : MM, P r → o = ((9, 0), r)) {z : MM} (h : j_X17_runOut_64 x0 x1 M = some z) (hz : P z) : Sem g d YX17_runOut 64 [(1, x0), (0, x1), (9, 0), (9, 0)] [] M o := by
  delta j_X17_runOut_64 at h
  refine S_iconst dX17_runOut_64 rfl ?_
  refine S_istore_n (i := 2) dX17_runOut_65 rfl (Nat.le_of_ble_eq_true rfl) rfl rfl ?_
  change Sem g d YX17_runOut 66 [(1, x0), (0, x1), (0, 0), (9, 0)] [] M o
  exact sl_X17_runOut_66 hD r0 h hz
theorem s_X17_runOut_58 {g : GG} {d : Nat} (hD : 217 ≤ d) {x0 x1 x2 : Int} {M : MM} {o : AV × MM} {P : ((Int × Int × MM) ⊕ (MM)) → Prop} (c0 : ∀ s : Int × Int × MM, P (.inl s) → Sem g d YX17_runOut 4 [(1, x0), (0, s.1), (0, s.2.1), (9, 0)] [] s.2.2 o) (r0 : ∀ r : MM, P (.inr r) → o = ((9, 0), r)) {z : (Int × Int × MM) ⊕ (MM)} (h : j_X17_runOut_58 x0 x1 x2 M = some z) (hz : P z) : Sem g d YX17_runOut 58 [(1, x0), (0, x1), (0, x2), (9, 0)] [] M o := by
  delta j_X17_runOut_58 at h
  refine S_iinc dX17_runOut_58 rfl rfl rfl ?_
  change Sem g d YX17_runOut 61 [(1, x0), (0, x1), (0, x2 + 1), (9, 0)] [] M o
  refine S_goto (tgt := 4) dX17_runOut_61 rfl ?_
  exact c0 (x1, x2 + 1, M) (some_P (P := fun r => P r) h hz)
theorem s_X17_runOut_4 {g : GG} {d : Nat} (hD : 217 ≤ d) {x0 x1 x2 : Int} {M : MM} {o : AV × MM} {P : ((Int × Int × MM) ⊕ (MM)) → Prop} (c0 : ∀ s : Int × Int × MM, P (.inl s) → Sem g d YX17_runOut 4 [(1, x0), (0, s.1), (0, s.2.1), (9, 0)] [] s.2.2 o) (r0 : ∀ r : MM, P (.inr r) → o = ((9, 0), r)) {z : (Int × Int × MM) ⊕ (MM)} (h : b_X17_runOut_4 x0 x1 x2 M = some z) (hz : P z) : Sem g d YX17_runOut 4 [(1, x0), (0, x1), (0, x2), (9, 0)] [] M o := by
  delta b_X17_runOut_4 at h
  refine S_iload_n (i := 2) dX17_runOut_4 rfl rfl ?_
  refine S_aload_n (i := 0) dX17_runOut_5 rfl rfl ?_
  refine P_gfi FLX17_101 rfl dX17_runOut_6 h (fun v1 h => ?_)
  refine P_icmp_ge (tgt := 64) dX17_runOut_9 rfl h (fun h => ?_) (fun h => ?_)
  · refine S_weak (ls' := [(1, x0), (0, x1), (9, 0), (9, 0)]) ⟨Or.inr rfl, ⟨Or.inr rfl, ⟨Or.inl rfl, ⟨Or.inl rfl, trivial⟩⟩⟩⟩ ?_
    obtain ⟨z0, h, hz⟩ := xit_some' (P := fun r => P r) h hz
    exact s_X17_runOut_64 hD (P := fun r => P (.inr r)) r0 h hz
  · refine S_aload_n (i := 0) dX17_runOut_12 rfl rfl ?_
    refine P_gfr FLX17_34 rfl dX17_runOut_13 h (fun v2 h => ?_)
    refine S_iload_n (i := 2) dX17_runOut_16 rfl rfl ?_
    refine P_lar (t := 11) ⟨by decide, by decide⟩ dX17_runOut_17 h (fun v3 h => ?_)
    refine P_gfi FLX17_175 rfl dX17_runOut_18 h (fun v4 h => ?_)
    refine S_aload_n (i := 0) dX17_runOut_21 rfl rfl ?_
    refine P_gfr FLX17_42 rfl dX17_runOut_22 h (fun v5 h => ?_)
    refine P_gfr FLX17_83 rfl dX17_runOut_25 h (fun v6 h => ?_)
    refine P_gfi FLX17_87 rfl dX17_runOut_28 h (fun v7 h => ?_)
    refine P_icmp_le (tgt := 37) dX17_runOut_31 rfl h (fun h => ?_) (fun h => ?_)
    · refine S_aload_n (i := 0) dX17_runOut_37 rfl rfl ?_
      refine P_gfr FLX17_42 rfl dX17_runOut_38 h (fun v8 h => ?_)
      refine P_gfr FLX17_366 rfl dX17_runOut_41 h (fun v9 h => ?_)
      refine S_iload_n (i := 1) dX17_runOut_44 rfl rfl ?_
      refine S_aload_n (i := 0) dX17_runOut_45 rfl rfl ?_
      refine P_gfr FLX17_34 rfl dX17_runOut_46 h (fun v10 h => ?_)
      refine S_iload_n (i := 2) dX17_runOut_49 rfl rfl ?_
      refine P_lar (t := 11) ⟨by decide, by decide⟩ dX17_runOut_50 h (fun v11 h => ?_)
      refine P_gfi FLX17_130 rfl dX17_runOut_51 h (fun v12 h => ?_)
      refine P_sai dX17_runOut_54 h (fun M1 h => ?_)
      refine S_iinc dX17_runOut_55 rfl rfl rfl ?_
      change Sem g d YX17_runOut 58 [(1, x0), (0, x1 + 1), (0, x2), (9, 0)] [] M1 o
      exact s_X17_runOut_58 hD c0 r0 h hz
    · refine S_goto (tgt := 58) dX17_runOut_34 rfl ?_
      exact s_X17_runOut_58 hD c0 r0 h hz
theorem sl_X17_runOut_4 {g : GG} {d : Nat} (hD : 217 ≤ d) {x0 x1 x2 : Int} {M : MM} {o : AV × MM} {P : (MM) → Prop} (r0 : ∀ r : MM, P r → o = ((9, 0), r)) {z : MM} (h : l_X17_runOut_4 x0 x1 x2 M = some z) (hz : P z) : Sem g d YX17_runOut 4 [(1, x0), (0, x1), (0, x2), (9, 0)] [] M o := by
  refine lp_sound (S := fun s : Int × Int × MM => Sem g d YX17_runOut 4 [(1, x0), (0, s.1), (0, s.2.1), (9, 0)] [] s.2.2 o) (P := P) ?_ FU (x1, x2, M) z h hz
  intro s x hx hP
  exact s_X17_runOut_4 hD (P := Sum.elim (fun s : Int × Int × MM => Sem g d YX17_runOut 4 [(1, x0), (0, s.1), (0, s.2.1), (9, 0)] [] s.2.2 o) P) (fun s h => h) (fun s h => r0 s h) hx hP
theorem s_X17_runOut_0 {g : GG} {d : Nat} (hD : 217 ≤ d) {x0 : Int} {M : MM} {o : AV × MM} {P : (MM) → Prop} (r0 : ∀ r : MM, P r → o = ((9, 0), r)) {z : MM} (h : f_X17_runOut x0 M = some z) (hz : P z) : Sem g d YX17_runOut 0 [(1, x0), (9, 0), (9, 0), (9, 0)] [] M o := by
  delta f_X17_runOut at h
  refine S_iconst dX17_runOut_0 rfl ?_
  refine S_istore_n (i := 1) dX17_runOut_1 rfl (Nat.le_of_ble_eq_true rfl) rfl rfl ?_
  change Sem g d YX17_runOut 2 [(1, x0), (0, 0), (9, 0), (9, 0)] [] M o
  refine S_iconst dX17_runOut_2 rfl ?_
  refine S_istore_n (i := 2) dX17_runOut_3 rfl (Nat.le_of_ble_eq_true rfl) rfl rfl ?_
  change Sem g d YX17_runOut 4 [(1, x0), (0, 0), (0, 0), (9, 0)] [] M o
  exact sl_X17_runOut_4 hD r0 h hz
theorem F_X17_runOut {g : GG} {d : Nat} (hD : 217 ≤ d) {x0 : Int} {M : MM} {r : MM} (h : f_X17_runOut x0 M = some r) : Sem g d YX17_runOut 0 (ini YX17_runOut [(1, x0)]) [] M ((9, 0), r) := by
  change Sem g d YX17_runOut 0 [(1, x0), (9, 0), (9, 0), (9, 0)] [] M ((9, 0), r)
  exact s_X17_runOut_0 hD (P := fun x => x = r) (fun q e => by rw [e]) h rfl
/-! PeerSearch$Store.expire(I)V -/
theorem dX18_expire_0 : decode cX18_expire 0 = .ok (.iconst 0, 1) := by decide +kernel
theorem dX18_expire_1 : decode cX18_expire 1 = .ok (.istore_n 2, 1) := by decide +kernel
theorem dX18_expire_2 : decode cX18_expire 2 = .ok (.iconst 0, 1) := by decide +kernel
theorem dX18_expire_3 : decode cX18_expire 3 = .ok (.istore_n 3, 1) := by decide +kernel
theorem dX18_expire_4 : decode cX18_expire 4 = .ok (.iload_n 3, 1) := by decide +kernel
theorem dX18_expire_5 : decode cX18_expire 5 = .ok (.aload_n 0, 1) := by decide +kernel
theorem dX18_expire_6 : decode cX18_expire 6 = .ok (.getfield 38, 3) := by decide +kernel
theorem dX18_expire_9 : decode cX18_expire 9 = .ok (.if_icmp .ge 56, 3) := by decide +kernel
theorem dX18_expire_12 : decode cX18_expire 12 = .ok (.aload_n 0, 1) := by decide +kernel
theorem dX18_expire_13 : decode cX18_expire 13 = .ok (.getfield 13, 3) := by decide +kernel
theorem dX18_expire_16 : decode cX18_expire 16 = .ok (.iload_n 3, 1) := by decide +kernel
theorem dX18_expire_17 : decode cX18_expire 17 = .ok (.aaload, 1) := by decide +kernel
theorem dX18_expire_18 : decode cX18_expire 18 = .ok (.getfield 59, 3) := by decide +kernel
theorem dX18_expire_21 : decode cX18_expire 21 = .ok (.iload_n 1, 1) := by decide +kernel
theorem dX18_expire_22 : decode cX18_expire 22 = .ok (.if_icmp .gt 6, 3) := by decide +kernel
theorem dX18_expire_25 : decode cX18_expire 25 = .ok (.goto 34, 3) := by decide +kernel
theorem dX18_expire_28 : decode cX18_expire 28 = .ok (.aload_n 0, 1) := by decide +kernel
theorem dX18_expire_29 : decode cX18_expire 29 = .ok (.getfield 13, 3) := by decide +kernel
theorem dX18_expire_32 : decode cX18_expire 32 = .ok (.iload_n 2, 1) := by decide +kernel
theorem dX18_expire_33 : decode cX18_expire 33 = .ok (.aaload, 1) := by decide +kernel
theorem dX18_expire_34 : decode cX18_expire 34 = .ok (.astore 4, 2) := by decide +kernel
theorem dX18_expire_36 : decode cX18_expire 36 = .ok (.aload_n 0, 1) := by decide +kernel
theorem dX18_expire_37 : decode cX18_expire 37 = .ok (.getfield 13, 3) := by decide +kernel
theorem dX18_expire_40 : decode cX18_expire 40 = .ok (.iload_n 2, 1) := by decide +kernel
theorem dX18_expire_41 : decode cX18_expire 41 = .ok (.aload_n 0, 1) := by decide +kernel
theorem dX18_expire_42 : decode cX18_expire 42 = .ok (.getfield 13, 3) := by decide +kernel
theorem dX18_expire_45 : decode cX18_expire 45 = .ok (.iload_n 3, 1) := by decide +kernel
theorem dX18_expire_46 : decode cX18_expire 46 = .ok (.aaload, 1) := by decide +kernel
theorem dX18_expire_47 : decode cX18_expire 47 = .ok (.aastore, 1) := by decide +kernel
theorem dX18_expire_48 : decode cX18_expire 48 = .ok (.aload_n 0, 1) := by decide +kernel
theorem dX18_expire_49 : decode cX18_expire 49 = .ok (.getfield 13, 3) := by decide +kernel
theorem dX18_expire_52 : decode cX18_expire 52 = .ok (.iload_n 3, 1) := by decide +kernel
theorem dX18_expire_53 : decode cX18_expire 53 = .ok (.aload 4, 2) := by decide +kernel
theorem dX18_expire_55 : decode cX18_expire 55 = .ok (.aastore, 1) := by decide +kernel
theorem dX18_expire_56 : decode cX18_expire 56 = .ok (.iinc 2 1, 3) := by decide +kernel
theorem dX18_expire_59 : decode cX18_expire 59 = .ok (.iinc 3 1, 3) := by decide +kernel
theorem dX18_expire_62 : decode cX18_expire 62 = .ok (.goto (-58), 3) := by decide +kernel
theorem dX18_expire_65 : decode cX18_expire 65 = .ok (.aload_n 0, 1) := by decide +kernel
theorem dX18_expire_66 : decode cX18_expire 66 = .ok (.iload_n 2, 1) := by decide +kernel
theorem dX18_expire_67 : decode cX18_expire 67 = .ok (.putfield 38, 3) := by decide +kernel
theorem dX18_expire_70 : decode cX18_expire 70 = .ok (.return_, 1) := by decide +kernel
def j_X18_expire_59 (x0 x1 x2 x3 : Int) (M : MM) : Option ((Int × Int × MM) ⊕ (MM)) :=
  cnt (x2, x3 + 1, M)
def b_X18_expire_4 (x0 x1 x2 x3 : Int) (M : MM) : Option ((Int × Int × MM) ⊕ (MM)) :=
  (gfi 18 1 x0 M).bind fun v1 =>
  if w32 x3 < w32 v1 then
    (gfr 18 0 x0 M).bind fun v2 =>
    (lar 9 v2 x3 M).bind fun v3 =>
    (gfi 28 4 v3 M).bind fun v4 =>
    if w32 x1 < w32 v4 then
      (gfr 18 0 x0 M).bind fun v5 =>
      (lar 9 v5 x2 M).bind fun v6 =>
      (gfr 18 0 x0 M).bind fun v7 =>
      (gfr 18 0 x0 M).bind fun v8 =>
      (lar 9 v8 x3 M).bind fun v9 =>
      (sar 9 v7 x2 v9 M).bind fun M2 =>
      (gfr 18 0 x0 M2).bind fun v10 =>
      (sar 9 v10 x3 v6 M2).bind fun M3 =>
      j_X18_expire_59 x0 x1 (x2 + 1) x3 M3
    else
      j_X18_expire_59 x0 x1 x2 x3 M
  else
    xit ((pfi 18 1 x0 x2 M).bind fun M1 => some M1)
def l_X18_expire_4 (x0 x1 x2 x3 : Int) (M : MM) : Option (MM) := lpN (fun s : Int × Int × MM => b_X18_expire_4 x0 x1 s.1 s.2.1 s.2.2) FU (x2, x3, M)
def f_X18_expire (x0 x1 : Int) (M : MM) : Option (MM) :=
  l_X18_expire_4 x0 x1 0 0 M
theorem s_X18_expire_59 {g : GG} {d : Nat} (hD : 0 ≤ d) {x0 x1 x2 x3 : Int} {M : MM} {o : AV × MM} {P : ((Int × Int × MM) ⊕ (MM)) → Prop} (c0 : ∀ s : Int × Int × MM, P (.inl s) → Sem g d YX18_expire 4 [(1, x0), (0, x1), (0, s.1), (0, s.2.1), (9, 0)] [] s.2.2 o) (r0 : ∀ r : MM, P (.inr r) → o = ((9, 0), r)) {z : (Int × Int × MM) ⊕ (MM)} (h : j_X18_expire_59 x0 x1 x2 x3 M = some z) (hz : P z) : Sem g d YX18_expire 59 [(1, x0), (0, x1), (0, x2), (0, x3), (9, 0)] [] M o := by
  delta j_X18_expire_59 at h
  refine S_iinc dX18_expire_59 rfl rfl rfl ?_
  change Sem g d YX18_expire 62 [(1, x0), (0, x1), (0, x2), (0, x3 + 1), (9, 0)] [] M o
  refine S_goto (tgt := 4) dX18_expire_62 rfl ?_
  exact c0 (x2, x3 + 1, M) (some_P (P := fun r => P r) h hz)
theorem s_X18_expire_4 {g : GG} {d : Nat} (hD : 0 ≤ d) {x0 x1 x2 x3 : Int} {M : MM} {o : AV × MM} {P : ((Int × Int × MM) ⊕ (MM)) → Prop} (c0 : ∀ s : Int × Int × MM, P (.inl s) → Sem g d YX18_expire 4 [(1, x0), (0, x1), (0, s.1), (0, s.2.1), (9, 0)] [] s.2.2 o) (r0 : ∀ r : MM, P (.inr r) → o = ((9, 0), r)) {z : (Int × Int × MM) ⊕ (MM)} (h : b_X18_expire_4 x0 x1 x2 x3 M = some z) (hz : P z) : Sem g d YX18_expire 4 [(1, x0), (0, x1), (0, x2), (0, x3), (9, 0)] [] M o := by
  delta b_X18_expire_4 at h
  refine S_iload_n (i := 3) dX18_expire_4 rfl rfl ?_
  refine S_aload_n (i := 0) dX18_expire_5 rfl rfl ?_
  refine P_gfi FLX18_38 rfl dX18_expire_6 h (fun v1 h => ?_)
  refine P_icmp_ge (tgt := 65) dX18_expire_9 rfl h (fun h => ?_) (fun h => ?_)
  · obtain ⟨z0, h, hz⟩ := xit_some' (P := fun r => P r) h hz
    refine S_aload_n (i := 0) dX18_expire_65 rfl rfl ?_
    refine S_iload_n (i := 2) dX18_expire_66 rfl rfl ?_
    refine P_pfi FLX18_38 FPX18_38 rfl dX18_expire_67 h (fun M1 h => ?_)
    obtain rfl := r0 _ (some_P (P := fun r => P (.inr r)) h hz)
    exact S_return dX18_expire_70 rfl
  · refine S_aload_n (i := 0) dX18_expire_12 rfl rfl ?_
    refine P_gfr FLX18_13 rfl dX18_expire_13 h (fun v2 h => ?_)
    refine S_iload_n (i := 3) dX18_expire_16 rfl rfl ?_
    refine P_lar (t := 9) ⟨by decide, by decide⟩ dX18_expire_17 h (fun v3 h => ?_)
    refine P_gfi FLX18_59 rfl dX18_expire_18 h (fun v4 h => ?_)
    refine S_iload_n (i := 1) dX18_expire_21 rfl rfl ?_
    refine P_icmp_gt (tgt := 28) dX18_expire_22 rfl h (fun h => ?_) (fun h => ?_)
    · refine S_aload_n (i := 0) dX18_expire_28 rfl rfl ?_
      refine P_gfr FLX18_13 rfl dX18_expire_29 h (fun v5 h => ?_)
      refine S_iload_n (i := 2) dX18_expire_32 rfl rfl ?_
      refine P_lar (t := 9) ⟨by decide, by decide⟩ dX18_expire_33 h (fun v6 h => ?_)
      refine S_astore dX18_expire_34 (Nat.le_of_ble_eq_true rfl) rfl rfl ?_
      change Sem g d YX18_expire 36 [(1, x0), (0, x1), (0, x2), (0, x3), (1, v6)] [] M o
      refine S_aload_n (i := 0) dX18_expire_36 rfl rfl ?_
      refine P_gfr FLX18_13 rfl dX18_expire_37 h (fun v7 h => ?_)
      refine S_iload_n (i := 2) dX18_expire_40 rfl rfl ?_
      refine S_aload_n (i := 0) dX18_expire_41 rfl rfl ?_
      refine P_gfr FLX18_13 rfl dX18_expire_42 h (fun v8 h => ?_)
      refine S_iload_n (i := 3) dX18_expire_45 rfl rfl ?_
      refine P_lar (t := 9) ⟨by decide, by decide⟩ dX18_expire_46 h (fun v9 h => ?_)
      refine P_sar (t := 9) ⟨by decide, by decide⟩ dX18_expire_47 h (fun M2 h => ?_)
      refine S_aload_n (i := 0) dX18_expire_48 rfl rfl ?_
      refine P_gfr FLX18_13 rfl dX18_expire_49 h (fun v10 h => ?_)
      refine S_iload_n (i := 3) dX18_expire_52 rfl rfl ?_
      refine S_aload dX18_expire_53 rfl ?_
      refine P_sar (t := 9) ⟨by decide, by decide⟩ dX18_expire_55 h (fun M3 h => ?_)
      refine S_iinc dX18_expire_56 rfl rfl rfl ?_
      change Sem g d YX18_expire 59 [(1, x0), (0, x1), (0, x2 + 1), (0, x3), (1, v6)] [] M3 o
      refine S_weak (ls' := [(1, x0), (0, x1), (0, x2 + 1), (0, x3), (9, 0)]) ⟨Or.inr rfl, ⟨Or.inr rfl, ⟨Or.inr rfl, ⟨Or.inr rfl, ⟨Or.inl rfl, trivial⟩⟩⟩⟩⟩ ?_
      exact s_X18_expire_59 hD c0 r0 h hz
    · refine S_goto (tgt := 59) dX18_expire_25 rfl ?_
      exact s_X18_expire_59 hD c0 r0 h hz
theorem sl_X18_expire_4 {g : GG} {d : Nat} (hD : 0 ≤ d) {x0 x1 x2 x3 : Int} {M : MM} {o : AV × MM} {P : (MM) → Prop} (r0 : ∀ r : MM, P r → o = ((9, 0), r)) {z : MM} (h : l_X18_expire_4 x0 x1 x2 x3 M = some z) (hz : P z) : Sem g d YX18_expire 4 [(1, x0), (0, x1), (0, x2), (0, x3), (9, 0)] [] M o := by
  refine lp_sound (S := fun s : Int × Int × MM => Sem g d YX18_expire 4 [(1, x0), (0, x1), (0, s.1), (0, s.2.1), (9, 0)] [] s.2.2 o) (P := P) ?_ FU (x2, x3, M) z h hz
  intro s x hx hP
  exact s_X18_expire_4 hD (P := Sum.elim (fun s : Int × Int × MM => Sem g d YX18_expire 4 [(1, x0), (0, x1), (0, s.1), (0, s.2.1), (9, 0)] [] s.2.2 o) P) (fun s h => h) (fun s h => r0 s h) hx hP
theorem s_X18_expire_0 {g : GG} {d : Nat} (hD : 0 ≤ d) {x0 x1 : Int} {M : MM} {o : AV × MM} {P : (MM) → Prop} (r0 : ∀ r : MM, P r → o = ((9, 0), r)) {z : MM} (h : f_X18_expire x0 x1 M = some z) (hz : P z) : Sem g d YX18_expire 0 [(1, x0), (0, x1), (9, 0), (9, 0), (9, 0)] [] M o := by
  delta f_X18_expire at h
  refine S_iconst dX18_expire_0 rfl ?_
  refine S_istore_n (i := 2) dX18_expire_1 rfl (Nat.le_of_ble_eq_true rfl) rfl rfl ?_
  change Sem g d YX18_expire 2 [(1, x0), (0, x1), (0, 0), (9, 0), (9, 0)] [] M o
  refine S_iconst dX18_expire_2 rfl ?_
  refine S_istore_n (i := 3) dX18_expire_3 rfl (Nat.le_of_ble_eq_true rfl) rfl rfl ?_
  change Sem g d YX18_expire 4 [(1, x0), (0, x1), (0, 0), (0, 0), (9, 0)] [] M o
  exact sl_X18_expire_4 hD r0 h hz
theorem F_X18_expire {g : GG} {d : Nat} (hD : 0 ≤ d) {x0 x1 : Int} {M : MM} {r : MM} (h : f_X18_expire x0 x1 M = some r) : Sem g d YX18_expire 0 (ini YX18_expire [(1, x0), (0, x1)]) [] M ((9, 0), r) := by
  change Sem g d YX18_expire 0 [(1, x0), (0, x1), (9, 0), (9, 0), (9, 0)] [] M ((9, 0), r)
  exact s_X18_expire_0 hD (P := fun x => x = r) (fun q e => by rw [e]) h rfl
/-! PeerSearch.works(LPeerSearch$Peer;)V -/
theorem dX1_works_0 : decode cX1_works 0 = .ok (.aload_n 1, 1) := by decide +kernel
theorem dX1_works_1 : decode cX1_works 1 = .ok (.invokevirtual 288, 3) := by decide +kernel
theorem dX1_works_4 : decode cX1_works 4 = .ok (.aload_n 1, 1) := by decide +kernel
theorem dX1_works_5 : decode cX1_works 5 = .ok (.getfield 291, 3) := by decide +kernel
theorem dX1_works_8 : decode cX1_works 8 = .ok (.aload_n 0, 1) := by decide +kernel
theorem dX1_works_9 : decode cX1_works 9 = .ok (.getfield 78, 3) := by decide +kernel
theorem dX1_works_12 : decode cX1_works 12 = .ok (.getfield 295, 3) := by decide +kernel
theorem dX1_works_15 : decode cX1_works 15 = .ok (.invokevirtual 298, 3) := by decide +kernel
theorem dX1_works_18 : decode cX1_works 18 = .ok (.aload_n 1, 1) := by decide +kernel
theorem dX1_works_19 : decode cX1_works 19 = .ok (.getfield 196, 3) := by decide +kernel
theorem dX1_works_22 : decode cX1_works 22 = .ok (.getfield 158, 3) := by decide +kernel
theorem dX1_works_25 : decode cX1_works 25 = .ok (.ifCond .eq 4, 3) := by decide +kernel
theorem dX1_works_28 : decode cX1_works 28 = .ok (.return_, 1) := by decide +kernel
theorem dX1_works_29 : decode cX1_works 29 = .ok (.aload_n 0, 1) := by decide +kernel
theorem dX1_works_30 : decode cX1_works 30 = .ok (.getfield 78, 3) := by decide +kernel
theorem dX1_works_33 : decode cX1_works 33 = .ok (.bipush 6, 2) := by decide +kernel
theorem dX1_works_35 : decode cX1_works 35 = .ok (.invokevirtual 303, 3) := by decide +kernel
theorem dX1_works_38 : decode cX1_works 38 = .ok (.istore_n 2, 1) := by decide +kernel
theorem dX1_works_39 : decode cX1_works 39 = .ok (.aload_n 0, 1) := by decide +kernel
theorem dX1_works_40 : decode cX1_works 40 = .ok (.getfield 78, 3) := by decide +kernel
theorem dX1_works_43 : decode cX1_works 43 = .ok (.bipush 8, 2) := by decide +kernel
theorem dX1_works_45 : decode cX1_works 45 = .ok (.invokevirtual 303, 3) := by decide +kernel
theorem dX1_works_48 : decode cX1_works 48 = .ok (.istore_n 3, 1) := by decide +kernel
theorem dX1_works_49 : decode cX1_works 49 = .ok (.iload_n 2, 1) := by decide +kernel
theorem dX1_works_50 : decode cX1_works 50 = .ok (.ifCond .le 48, 3) := by decide +kernel
theorem dX1_works_53 : decode cX1_works 53 = .ok (.aload_n 1, 1) := by decide +kernel
theorem dX1_works_54 : decode cX1_works 54 = .ok (.getfield 232, 3) := by decide +kernel
theorem dX1_works_57 : decode cX1_works 57 = .ok (.getfield 307, 3) := by decide +kernel
theorem dX1_works_60 : decode cX1_works 60 = .ok (.ifCond .le 38, 3) := by decide +kernel
theorem dX1_works_63 : decode cX1_works 63 = .ok (.aload_n 0, 1) := by decide +kernel
theorem dX1_works_64 : decode cX1_works 64 = .ok (.getfield 78, 3) := by decide +kernel
theorem dX1_works_67 : decode cX1_works 67 = .ok (.getfield 295, 3) := by decide +kernel
theorem dX1_works_70 : decode cX1_works 70 = .ok (.aload_n 1, 1) := by decide +kernel
theorem dX1_works_71 : decode cX1_works 71 = .ok (.getfield 308, 3) := by decide +kernel
theorem dX1_works_74 : decode cX1_works 74 = .ok (.isub, 1) := by decide +kernel
theorem dX1_works_75 : decode cX1_works 75 = .ok (.iload_n 2, 1) := by decide +kernel
theorem dX1_works_76 : decode cX1_works 76 = .ok (.if_icmp .lt 22, 3) := by decide +kernel
theorem dX1_works_79 : decode cX1_works 79 = .ok (.aload_n 1, 1) := by decide +kernel
theorem dX1_works_80 : decode cX1_works 80 = .ok (.getfield 196, 3) := by decide +kernel
theorem dX1_works_83 : decode cX1_works 83 = .ok (.aload_n 1, 1) := by decide +kernel
theorem dX1_works_84 : decode cX1_works 84 = .ok (.aload_n 1, 1) := by decide +kernel
theorem dX1_works_85 : decode cX1_works 85 = .ok (.getfield 196, 3) := by decide +kernel
theorem dX1_works_88 : decode cX1_works 88 = .ok (.invokevirtual 242, 3) := by decide +kernel
theorem dX1_works_91 : decode cX1_works 91 = .ok (.aconst_null, 1) := by decide +kernel
theorem dX1_works_92 : decode cX1_works 92 = .ok (.invokevirtual 163, 3) := by decide +kernel
theorem dX1_works_95 : decode cX1_works 95 = .ok (.goto 54, 3) := by decide +kernel
theorem dX1_works_98 : decode cX1_works 98 = .ok (.iload_n 3, 1) := by decide +kernel
theorem dX1_works_99 : decode cX1_works 99 = .ok (.ifCond .le 50, 3) := by decide +kernel
theorem dX1_works_102 : decode cX1_works 102 = .ok (.aload_n 0, 1) := by decide +kernel
theorem dX1_works_103 : decode cX1_works 103 = .ok (.getfield 78, 3) := by decide +kernel
theorem dX1_works_106 : decode cX1_works 106 = .ok (.getfield 295, 3) := by decide +kernel
theorem dX1_works_109 : decode cX1_works 109 = .ok (.aload_n 1, 1) := by decide +kernel
theorem dX1_works_110 : decode cX1_works 110 = .ok (.getfield 311, 3) := by decide +kernel
theorem dX1_works_113 : decode cX1_works 113 = .ok (.isub, 1) := by decide +kernel
theorem dX1_works_114 : decode cX1_works 114 = .ok (.iload_n 3, 1) := by decide +kernel
theorem dX1_works_115 : decode cX1_works 115 = .ok (.if_icmp .lt 34, 3) := by decide +kernel
theorem dX1_works_118 : decode cX1_works 118 = .ok (.aload_n 1, 1) := by decide +kernel
theorem dX1_works_119 : decode cX1_works 119 = .ok (.aload_n 0, 1) := by decide +kernel
theorem dX1_works_120 : decode cX1_works 120 = .ok (.getfield 78, 3) := by decide +kernel
theorem dX1_works_123 : decode cX1_works 123 = .ok (.getfield 295, 3) := by decide +kernel
theorem dX1_works_126 : decode cX1_works 126 = .ok (.putfield 311, 3) := by decide +kernel
theorem dX1_works_129 : decode cX1_works 129 = .ok (.aload_n 1, 1) := by decide +kernel
theorem dX1_works_130 : decode cX1_works 130 = .ok (.getfield 196, 3) := by decide +kernel
theorem dX1_works_133 : decode cX1_works 133 = .ok (.aload_n 1, 1) := by decide +kernel
theorem dX1_works_134 : decode cX1_works 134 = .ok (.aload_n 1, 1) := by decide +kernel
theorem dX1_works_135 : decode cX1_works 135 = .ok (.getfield 196, 3) := by decide +kernel
theorem dX1_works_138 : decode cX1_works 138 = .ok (.getfield 175, 3) := by decide +kernel
theorem dX1_works_141 : decode cX1_works 141 = .ok (.iconst 0, 1) := by decide +kernel
theorem dX1_works_142 : decode cX1_works 142 = .ok (.invokevirtual 179, 3) := by decide +kernel
theorem dX1_works_145 : decode cX1_works 145 = .ok (.aconst_null, 1) := by decide +kernel
theorem dX1_works_146 : decode cX1_works 146 = .ok (.invokevirtual 163, 3) := by decide +kernel
theorem dX1_works_149 : decode cX1_works 149 = .ok (.return_, 1) := by decide +kernel
def j_X1_works_149 (M : MM) : Option (MM) :=
  some M
def j_X1_works_98 (x0 x1 x3 : Int) (M : MM) : Option (MM) :=
  if 0 < w32 x3 then
    (gfr 1 1 x0 M).bind fun v1 =>
    (gfi 7 3 v1 M).bind fun v2 =>
    (gfi 17 18 x1 M).bind fun v3 =>
    if w32 (v2 - v3) < w32 x3 then
      j_X1_works_149 M
    else
      (gfr 1 1 x0 M).bind fun v4 =>
      (gfi 7 3 v4 M).bind fun v5 =>
      (pfi 17 18 x1 v5 M).bind fun M1 =>
      (gfr 17 19 x1 M1).bind fun v6 =>
      (gfr 17 19 x1 M1).bind fun v7 =>
      (gfr 11 8 v7 M1).bind fun v8 =>
      ck 13 v8 M1 <| (f_X13_from v8 0 M1).bind fun r1 =>
      ck 11 v6 r1.2 <| (f_X11_start v6 x1 r1.1 (-1) r1.2).bind fun M2 =>
      j_X1_works_149 M2
  else
    j_X1_works_149 M
def f_X1_works (x0 x1 : Int) (M : MM) : Option (MM) :=
  ck 17 x1 M <| (f_X17_runOut x1 M).bind fun M1 =>
  (gfr 17 6 x1 M1).bind fun v1 =>
  (gfr 1 1 x0 M1).bind fun v2 =>
  (gfi 7 3 v2 M1).bind fun v3 =>
  ck 18 v1 M1 <| (f_X18_expire v1 v3 M1).bind fun M2 =>
  (gfr 17 19 x1 M2).bind fun v4 =>
  (gfi 11 6 v4 M2).bind fun v5 =>
  if w32 v5 = 0 then
    (gfr 1 1 x0 M2).bind fun v6 =>
    ck 7 v6 M2 <| (f_X7_setting v6 6 M2).bind fun v7 =>
    (gfr 1 1 x0 M2).bind fun v8 =>
    ck 7 v8 M2 <| (f_X7_setting v8 8 M2).bind fun v9 =>
    if 0 < w32 v7 then
      (gfr 17 7 x1 M2).bind fun v10 =>
      (gfi 19 1 v10 M2).bind fun v11 =>
      if 0 < w32 v11 then
        (gfr 1 1 x0 M2).bind fun v12 =>
        (gfi 7 3 v12 M2).bind fun v13 =>
        (gfi 17 17 x1 M2).bind fun v14 =>
        if w32 (v13 - v14) < w32 v7 then
          j_X1_works_98 x0 x1 v9 M2
        else
          (gfr 17 19 x1 M2).bind fun v15 =>
          (gfr 17 19 x1 M2).bind fun v16 =>
          ck 11 v16 M2 <| (f_X11_publishing v16 M2).bind fun r1 =>
          ck 11 v15 r1.2 <| (f_X11_start v15 x1 r1.1 (-1) r1.2).bind fun M3 =>
          j_X1_works_149 M3
      else
        j_X1_works_98 x0 x1 v9 M2
    else
      j_X1_works_98 x0 x1 v9 M2
  else
    some M2
theorem s_X1_works_149 {g : GG} {d : Nat} (hD : 218 ≤ d) {M : MM} {o : AV × MM} {P : (MM) → Prop} (r0 : ∀ r : MM, P r → o = ((9, 0), r)) {z : MM} (h : j_X1_works_149 M = some z) (hz : P z) : Sem g d YX1_works 149 [(9, 0), (9, 0), (9, 0), (9, 0)] [] M o := by
  delta j_X1_works_149 at h
  obtain rfl := r0 _ (some_P (P := fun r => P r) h hz)
  exact S_return dX1_works_149 rfl
theorem s_X1_works_98 {g : GG} {d : Nat} (hD : 218 ≤ d) {x0 x1 x3 : Int} {M : MM} {o : AV × MM} {P : (MM) → Prop} (r0 : ∀ r : MM, P r → o = ((9, 0), r)) {z : MM} (h : j_X1_works_98 x0 x1 x3 M = some z) (hz : P z) : Sem g d YX1_works 98 [(1, x0), (1, x1), (9, 0), (0, x3)] [] M o := by
  delta j_X1_works_98 at h
  refine S_iload_n (i := 3) dX1_works_98 rfl rfl ?_
  refine P_if_le (tgt := 149) dX1_works_99 rfl h (fun h => ?_) (fun h => ?_)
  · refine S_weak (ls' := [(9, 0), (9, 0), (9, 0), (9, 0)]) ⟨Or.inl rfl, ⟨Or.inl rfl, ⟨Or.inl rfl, ⟨Or.inl rfl, trivial⟩⟩⟩⟩ ?_
    exact s_X1_works_149 hD r0 h hz
  · refine S_aload_n (i := 0) dX1_works_102 rfl rfl ?_
    refine P_gfr FLX1_78 rfl dX1_works_103 h (fun v1 h => ?_)
    refine P_gfi FLX1_295 rfl dX1_works_106 h (fun v2 h => ?_)
    refine S_aload_n (i := 1) dX1_works_109 rfl rfl ?_
    refine P_gfi FLX1_311 rfl dX1_works_110 h (fun v3 h => ?_)
    refine S_isub dX1_works_113 ?_
    refine S_iload_n (i := 3) dX1_works_114 rfl rfl ?_
    refine P_icmp_lt (tgt := 149) dX1_works_115 rfl h (fun h => ?_) (fun h => ?_)
    · refine S_weak (ls' := [(9, 0), (9, 0), (9, 0), (9, 0)]) ⟨Or.inl rfl, ⟨Or.inl rfl, ⟨Or.inl rfl, ⟨Or.inl rfl, trivial⟩⟩⟩⟩ ?_
      exact s_X1_works_149 hD r0 h hz
    · refine S_aload_n (i := 1) dX1_works_118 rfl rfl ?_
      refine S_aload_n (i := 0) dX1_works_119 rfl rfl ?_
      refine P_gfr FLX1_78 rfl dX1_works_120 h (fun v4 h => ?_)
      refine P_gfi FLX1_295 rfl dX1_works_123 h (fun v5 h => ?_)
      refine P_pfi FLX1_311 FPX1_311 rfl dX1_works_126 h (fun M1 h => ?_)
      refine S_aload_n (i := 1) dX1_works_129 rfl rfl ?_
      refine P_gfr FLX1_196 rfl dX1_works_130 h (fun v6 h => ?_)
      refine S_aload_n (i := 1) dX1_works_133 rfl rfl ?_
      refine S_aload_n (i := 1) dX1_works_134 rfl rfl ?_
      refine P_gfr FLX1_196 rfl dX1_works_135 h (fun v7 h => ?_)
      refine P_gfr FLX1_175 rfl dX1_works_138 h (fun v8 h => ?_)
      refine S_iconst dX1_works_141 rfl ?_
      refine P_invVe 1 [(0, 0)] [(1, x1), (1, v6)] CVX13_from MLX1_179 dX1_works_142 rfl rfl rfl rfl rfl (by omega) h (fun r h => F_X13_from (by omega) h) (fun r1 h => ?_)
      refine S_null dX1_works_145 ?_
      refine P_invVm' [(1, x1), (1, r1.1), (1, (-1))] [] CVX11_start MLX1_163 dX1_works_146 rfl rfl rfl rfl (by omega) h (fun r h => F_X11_start (by omega) h) (fun M2 h => ?_)
      refine S_weak (ls' := [(9, 0), (9, 0), (9, 0), (9, 0)]) ⟨Or.inl rfl, ⟨Or.inl rfl, ⟨Or.inl rfl, ⟨Or.inl rfl, trivial⟩⟩⟩⟩ ?_
      exact s_X1_works_149 hD r0 h hz
theorem s_X1_works_0 {g : GG} {d : Nat} (hD : 218 ≤ d) {x0 x1 : Int} {M : MM} {o : AV × MM} {P : (MM) → Prop} (r0 : ∀ r : MM, P r → o = ((9, 0), r)) {z : MM} (h : f_X1_works x0 x1 M = some z) (hz : P z) : Sem g d YX1_works 0 [(1, x0), (1, x1), (9, 0), (9, 0)] [] M o := by
  delta f_X1_works at h
  refine S_aload_n (i := 1) dX1_works_0 rfl rfl ?_
  refine P_invVm' [] [] CVX17_runOut MLX1_288 dX1_works_1 rfl rfl rfl rfl (by omega) h (fun r h => F_X17_runOut (by omega) h) (fun M1 h => ?_)
  refine S_aload_n (i := 1) dX1_works_4 rfl rfl ?_
  refine P_gfr FLX1_291 rfl dX1_works_5 h (fun v1 h => ?_)
  refine S_aload_n (i := 0) dX1_works_8 rfl rfl ?_
  refine P_gfr FLX1_78 rfl dX1_works_9 h (fun v2 h => ?_)
  refine P_gfi FLX1_295 rfl dX1_works_12 h (fun v3 h => ?_)
  refine P_invVm' [(0, v3)] [] CVX18_expire MLX1_298 dX1_works_15 rfl rfl rfl rfl (by omega) h (fun r h => F_X18_expire (by omega) h) (fun M2 h => ?_)
  refine S_aload_n (i := 1) dX1_works_18 rfl rfl ?_
  refine P_gfr FLX1_196 rfl dX1_works_19 h (fun v4 h => ?_)
  refine P_gfi FLX1_158 rfl dX1_works_22 h (fun v5 h => ?_)
  refine P_if_eq (tgt := 29) dX1_works_25 rfl h (fun h => ?_) (fun h => ?_)
  · refine S_aload_n (i := 0) dX1_works_29 rfl rfl ?_
    refine P_gfr FLX1_78 rfl dX1_works_30 h (fun v6 h => ?_)
    refine S_bipush (z := 6) dX1_works_33 rfl ?_
    refine P_invVp 0 [(0, 6)] [] CVX7_setting MLX1_303 dX1_works_35 rfl rfl rfl rfl rfl (by omega) h (fun r h => F_X7_setting (by omega) h) (fun v7 h => ?_)
    refine S_istore_n (i := 2) dX1_works_38 rfl (Nat.le_of_ble_eq_true rfl) rfl rfl ?_
    change Sem g d YX1_works 39 [(1, x0), (1, x1), (0, v7), (9, 0)] [] M2 o
    refine S_aload_n (i := 0) dX1_works_39 rfl rfl ?_
    refine P_gfr FLX1_78 rfl dX1_works_40 h (fun v8 h => ?_)
    refine S_bipush (z := 8) dX1_works_43 rfl ?_
    refine P_invVp 0 [(0, 8)] [] CVX7_setting MLX1_303 dX1_works_45 rfl rfl rfl rfl rfl (by omega) h (fun r h => F_X7_setting (by omega) h) (fun v9 h => ?_)
    refine S_istore_n (i := 3) dX1_works_48 rfl (Nat.le_of_ble_eq_true rfl) rfl rfl ?_
    change Sem g d YX1_works 49 [(1, x0), (1, x1), (0, v7), (0, v9)] [] M2 o
    refine S_iload_n (i := 2) dX1_works_49 rfl rfl ?_
    refine P_if_le (tgt := 98) dX1_works_50 rfl h (fun h => ?_) (fun h => ?_)
    · refine S_weak (ls' := [(1, x0), (1, x1), (9, 0), (0, v9)]) ⟨Or.inr rfl, ⟨Or.inr rfl, ⟨Or.inl rfl, ⟨Or.inr rfl, trivial⟩⟩⟩⟩ ?_
      exact s_X1_works_98 hD r0 h hz
    · refine S_aload_n (i := 1) dX1_works_53 rfl rfl ?_
      refine P_gfr FLX1_232 rfl dX1_works_54 h (fun v10 h => ?_)
      refine P_gfi FLX1_307 rfl dX1_works_57 h (fun v11 h => ?_)
      refine P_if_le (tgt := 98) dX1_works_60 rfl h (fun h => ?_) (fun h => ?_)
      · refine S_weak (ls' := [(1, x0), (1, x1), (9, 0), (0, v9)]) ⟨Or.inr rfl, ⟨Or.inr rfl, ⟨Or.inl rfl, ⟨Or.inr rfl, trivial⟩⟩⟩⟩ ?_
        exact s_X1_works_98 hD r0 h hz
      · refine S_aload_n (i := 0) dX1_works_63 rfl rfl ?_
        refine P_gfr FLX1_78 rfl dX1_works_64 h (fun v12 h => ?_)
        refine P_gfi FLX1_295 rfl dX1_works_67 h (fun v13 h => ?_)
        refine S_aload_n (i := 1) dX1_works_70 rfl rfl ?_
        refine P_gfi FLX1_308 rfl dX1_works_71 h (fun v14 h => ?_)
        refine S_isub dX1_works_74 ?_
        refine S_iload_n (i := 2) dX1_works_75 rfl rfl ?_
        refine P_icmp_lt (tgt := 98) dX1_works_76 rfl h (fun h => ?_) (fun h => ?_)
        · refine S_weak (ls' := [(1, x0), (1, x1), (9, 0), (0, v9)]) ⟨Or.inr rfl, ⟨Or.inr rfl, ⟨Or.inl rfl, ⟨Or.inr rfl, trivial⟩⟩⟩⟩ ?_
          exact s_X1_works_98 hD r0 h hz
        · refine S_aload_n (i := 1) dX1_works_79 rfl rfl ?_
          refine P_gfr FLX1_196 rfl dX1_works_80 h (fun v15 h => ?_)
          refine S_aload_n (i := 1) dX1_works_83 rfl rfl ?_
          refine S_aload_n (i := 1) dX1_works_84 rfl rfl ?_
          refine P_gfr FLX1_196 rfl dX1_works_85 h (fun v16 h => ?_)
          refine P_invVe 1 [] [(1, x1), (1, v15)] CVX11_publishing MLX1_242 dX1_works_88 rfl rfl rfl rfl rfl (by omega) h (fun r h => F_X11_publishing (by omega) h) (fun r1 h => ?_)
          refine S_null dX1_works_91 ?_
          refine P_invVm' [(1, x1), (1, r1.1), (1, (-1))] [] CVX11_start MLX1_163 dX1_works_92 rfl rfl rfl rfl (by omega) h (fun r h => F_X11_start (by omega) h) (fun M3 h => ?_)
          refine S_goto (tgt := 149) dX1_works_95 rfl ?_
          refine S_weak (ls' := [(9, 0), (9, 0), (9, 0), (9, 0)]) ⟨Or.inl rfl, ⟨Or.inl rfl, ⟨Or.inl rfl, ⟨Or.inl rfl, trivial⟩⟩⟩⟩ ?_
          exact s_X1_works_149 hD r0 h hz
  · obtain rfl := r0 _ (some_P (P := fun r => P r) h hz)
    exact S_return dX1_works_28 rfl
theorem F_X1_works {g : GG} {d : Nat} (hD : 218 ≤ d) {x0 x1 : Int} {M : MM} {r : MM} (h : f_X1_works x0 x1 M = some r) : Sem g d YX1_works 0 (ini YX1_works [(1, x0), (1, x1)]) [] M ((9, 0), r) := by
  change Sem g d YX1_works 0 [(1, x0), (1, x1), (9, 0), (9, 0)] [] M ((9, 0), r)
  exact s_X1_works_0 hD (P := fun x => x = r) (fun q e => by rw [e]) h rfl
/-! PeerSearch$Net.isDue()Z -/
theorem dX7_isDue_0 : decode cX7_isDue 0 = .ok (.aload_n 0, 1) := by decide +kernel
theorem dX7_isDue_1 : decode cX7_isDue 1 = .ok (.getfield 38, 3) := by decide +kernel
theorem dX7_isDue_4 : decode cX7_isDue 4 = .ok (.ifCond .le 23, 3) := by decide +kernel
theorem dX7_isDue_7 : decode cX7_isDue 7 = .ok (.aload_n 0, 1) := by decide +kernel
theorem dX7_isDue_8 : decode cX7_isDue 8 = .ok (.getfield 17, 3) := by decide +kernel
theorem dX7_isDue_11 : decode cX7_isDue 11 = .ok (.iconst 0, 1) := by decide +kernel
theorem dX7_isDue_12 : decode cX7_isDue 12 = .ok (.aaload, 1) := by decide +kernel
theorem dX7_isDue_13 : decode cX7_isDue 13 = .ok (.getfield 49, 3) := by decide +kernel
theorem dX7_isDue_16 : decode cX7_isDue 16 = .ok (.aload_n 0, 1) := by decide +kernel
theorem dX7_isDue_17 : decode cX7_isDue 17 = .ok (.getfield 59, 3) := by decide +kernel
theorem dX7_isDue_20 : decode cX7_isDue 20 = .ok (.if_icmp .gt 7, 3) := by decide +kernel
theorem dX7_isDue_23 : decode cX7_isDue 23 = .ok (.iconst 1, 1) := by decide +kernel
theorem dX7_isDue_24 : decode cX7_isDue 24 = .ok (.goto 4, 3) := by decide +kernel
theorem dX7_isDue_27 : decode cX7_isDue 27 = .ok (.iconst 0, 1) := by decide +kernel
theorem dX7_isDue_28 : decode cX7_isDue 28 = .ok (.ireturn, 1) := by decide +kernel
def j_X7_isDue_28 (y0 : Int) (M : MM) : Option (Int) :=
  bz y0 (some y0)
def j_X7_isDue_27 (M : MM) : Option (Int) :=
  j_X7_isDue_28 0 M
def f_X7_isDue (x0 : Int) (M : MM) : Option (Int) :=
  (gfi 7 2 x0 M).bind fun v1 =>
  if 0 < w32 v1 then
    (gfr 7 1 x0 M).bind fun v2 =>
    (lar 5 v2 0 M).bind fun v3 =>
    (gfi 25 2 v3 M).bind fun v4 =>
    (gfi 7 3 x0 M).bind fun v5 =>
    if w32 v5 < w32 v4 then
      j_X7_isDue_27 M
    else
      j_X7_isDue_28 1 M
  else
    j_X7_isDue_27 M
theorem s_X7_isDue_28 {g : GG} {d : Nat} (hD : 0 ≤ d) {y0 : Int} {M : MM} {o : AV × MM} {P : (Int) → Prop} (r0 : ∀ r : Int, P r → o = ((0, r), M)) {z : Int} (h : j_X7_isDue_28 y0 M = some z) (hz : P z) : Sem g d YX7_isDue 28 [(9, 0)] [(0, y0)] M o := by
  delta j_X7_isDue_28 at h
  obtain ⟨hb, h⟩ := bz_some h
  obtain rfl := r0 _ (some_P (P := fun r => P r) h hz)
  exact P_ret dX7_isDue_28 rfl (Or.inr ⟨rfl, hb⟩)
theorem s_X7_isDue_27 {g : GG} {d : Nat} (hD : 0 ≤ d) {M : MM} {o : AV × MM} {P : (Int) → Prop} (r0 : ∀ r : Int, P r → o = ((0, r), M)) {z : Int} (h : j_X7_isDue_27 M = some z) (hz : P z) : Sem g d YX7_isDue 27 [(9, 0)] [] M o := by
  delta j_X7_isDue_27 at h
  refine S_iconst dX7_isDue_27 rfl ?_
  exact s_X7_isDue_28 hD r0 h hz
theorem s_X7_isDue_0 {g : GG} {d : Nat} (hD : 0 ≤ d) {x0 : Int} {M : MM} {o : AV × MM} {P : (Int) → Prop} (r0 : ∀ r : Int, P r → o = ((0, r), M)) {z : Int} (h : f_X7_isDue x0 M = some z) (hz : P z) : Sem g d YX7_isDue 0 [(1, x0)] [] M o := by
  delta f_X7_isDue at h
  refine S_aload_n (i := 0) dX7_isDue_0 rfl rfl ?_
  refine P_gfi FLX7_38 rfl dX7_isDue_1 h (fun v1 h => ?_)
  refine P_if_le (tgt := 27) dX7_isDue_4 rfl h (fun h => ?_) (fun h => ?_)
  · refine S_weak (ls' := [(9, 0)]) ⟨Or.inl rfl, trivial⟩ ?_
    exact s_X7_isDue_27 hD r0 h hz
  · refine S_aload_n (i := 0) dX7_isDue_7 rfl rfl ?_
    refine P_gfr FLX7_17 rfl dX7_isDue_8 h (fun v2 h => ?_)
    refine S_iconst dX7_isDue_11 rfl ?_
    refine P_lar (t := 5) ⟨by decide, by decide⟩ dX7_isDue_12 h (fun v3 h => ?_)
    refine P_gfi FLX7_49 rfl dX7_isDue_13 h (fun v4 h => ?_)
    refine S_aload_n (i := 0) dX7_isDue_16 rfl rfl ?_
    refine P_gfi FLX7_59 rfl dX7_isDue_17 h (fun v5 h => ?_)
    refine P_icmp_gt (tgt := 27) dX7_isDue_20 rfl h (fun h => ?_) (fun h => ?_)
    · refine S_weak (ls' := [(9, 0)]) ⟨Or.inl rfl, trivial⟩ ?_
      exact s_X7_isDue_27 hD r0 h hz
    · refine S_iconst dX7_isDue_23 rfl ?_
      refine S_goto (tgt := 28) dX7_isDue_24 rfl ?_
      refine S_weak (ls' := [(9, 0)]) ⟨Or.inl rfl, trivial⟩ ?_
      exact s_X7_isDue_28 hD r0 h hz
theorem F_X7_isDue {g : GG} {d : Nat} (hD : 0 ≤ d) {x0 : Int} {M : MM} {r : Int} (h : f_X7_isDue x0 M = some r) : Sem g d YX7_isDue 0 (ini YX7_isDue [(1, x0)]) [] M ((0, r), M) := by
  change Sem g d YX7_isDue 0 [(1, x0)] [] M ((0, r), M)
  exact s_X7_isDue_0 hD (P := fun x => x = r) (fun q e => by rw [e]) h rfl
/-! PeerSearch$Net.take()LPeerSearch$Datagram; -/
theorem dX7_take_0 : decode cX7_take 0 = .ok (.aload_n 0, 1) := by decide +kernel
theorem dX7_take_1 : decode cX7_take 1 = .ok (.getfield 17, 3) := by decide +kernel
theorem dX7_take_4 : decode cX7_take 4 = .ok (.iconst 0, 1) := by decide +kernel
theorem dX7_take_5 : decode cX7_take 5 = .ok (.aaload, 1) := by decide +kernel
theorem dX7_take_6 : decode cX7_take 6 = .ok (.astore_n 1, 1) := by decide +kernel
theorem dX7_take_7 : decode cX7_take 7 = .ok (.aload_n 0, 1) := by decide +kernel
theorem dX7_take_8 : decode cX7_take 8 = .ok (.getfield 24, 3) := by decide +kernel
theorem dX7_take_11 : decode cX7_take 11 = .ok (.aload_n 1, 1) := by decide +kernel
theorem dX7_take_12 : decode cX7_take 12 = .ok (.getfield 52, 3) := by decide +kernel
theorem dX7_take_15 : decode cX7_take 15 = .ok (.invokevirtual 55, 3) := by decide +kernel
theorem dX7_take_18 : decode cX7_take 18 = .ok (.aload_n 0, 1) := by decide +kernel
theorem dX7_take_19 : decode cX7_take 19 = .ok (.dup, 1) := by decide +kernel
theorem dX7_take_20 : decode cX7_take 20 = .ok (.getfield 38, 3) := by decide +kernel
theorem dX7_take_23 : decode cX7_take 23 = .ok (.iconst 1, 1) := by decide +kernel
theorem dX7_take_24 : decode cX7_take 24 = .ok (.isub, 1) := by decide +kernel
theorem dX7_take_25 : decode cX7_take 25 = .ok (.putfield 38, 3) := by decide +kernel
theorem dX7_take_28 : decode cX7_take 28 = .ok (.iconst 0, 1) := by decide +kernel
theorem dX7_take_29 : decode cX7_take 29 = .ok (.istore_n 2, 1) := by decide +kernel
theorem dX7_take_30 : decode cX7_take 30 = .ok (.iload_n 2, 1) := by decide +kernel
theorem dX7_take_31 : decode cX7_take 31 = .ok (.aload_n 0, 1) := by decide +kernel
theorem dX7_take_32 : decode cX7_take 32 = .ok (.getfield 38, 3) := by decide +kernel
theorem dX7_take_35 : decode cX7_take 35 = .ok (.if_icmp .ge 23, 3) := by decide +kernel
theorem dX7_take_38 : decode cX7_take 38 = .ok (.aload_n 0, 1) := by decide +kernel
theorem dX7_take_39 : decode cX7_take 39 = .ok (.getfield 17, 3) := by decide +kernel
theorem dX7_take_42 : decode cX7_take 42 = .ok (.iload_n 2, 1) := by decide +kernel
theorem dX7_take_43 : decode cX7_take 43 = .ok (.aload_n 0, 1) := by decide +kernel
theorem dX7_take_44 : decode cX7_take 44 = .ok (.getfield 17, 3) := by decide +kernel
theorem dX7_take_47 : decode cX7_take 47 = .ok (.iload_n 2, 1) := by decide +kernel
theorem dX7_take_48 : decode cX7_take 48 = .ok (.iconst 1, 1) := by decide +kernel
theorem dX7_take_49 : decode cX7_take 49 = .ok (.iadd, 1) := by decide +kernel
theorem dX7_take_50 : decode cX7_take 50 = .ok (.aaload, 1) := by decide +kernel
theorem dX7_take_51 : decode cX7_take 51 = .ok (.aastore, 1) := by decide +kernel
theorem dX7_take_52 : decode cX7_take 52 = .ok (.iinc 2 1, 3) := by decide +kernel
theorem dX7_take_55 : decode cX7_take 55 = .ok (.goto (-25), 3) := by decide +kernel
theorem dX7_take_58 : decode cX7_take 58 = .ok (.aload_n 0, 1) := by decide +kernel
theorem dX7_take_59 : decode cX7_take 59 = .ok (.getfield 17, 3) := by decide +kernel
theorem dX7_take_62 : decode cX7_take 62 = .ok (.aload_n 0, 1) := by decide +kernel
theorem dX7_take_63 : decode cX7_take 63 = .ok (.getfield 38, 3) := by decide +kernel
theorem dX7_take_66 : decode cX7_take 66 = .ok (.aload_n 1, 1) := by decide +kernel
theorem dX7_take_67 : decode cX7_take 67 = .ok (.aastore, 1) := by decide +kernel
theorem dX7_take_68 : decode cX7_take 68 = .ok (.aload_n 1, 1) := by decide +kernel
theorem dX7_take_69 : decode cX7_take 69 = .ok (.areturn, 1) := by decide +kernel
def j_X7_take_58 (x0 x1 : Int) (M : MM) : Option (Int × MM) :=
  (gfr 7 1 x0 M).bind fun v1 =>
  (gfi 7 2 x0 M).bind fun v2 =>
  (sar 5 v1 v2 x1 M).bind fun M1 =>
  some (x1, M1)
def b_X7_take_30 (x0 x1 x2 : Int) (M : MM) : Option ((Int × MM) ⊕ (Int × MM)) :=
  (gfi 7 2 x0 M).bind fun v1 =>
  if w32 x2 < w32 v1 then
    (gfr 7 1 x0 M).bind fun v2 =>
    (gfr 7 1 x0 M).bind fun v3 =>
    (lar 5 v3 (x2 + 1) M).bind fun v4 =>
    (sar 5 v2 x2 v4 M).bind fun M1 =>
    cnt (x2 + 1, M1)
  else
    xit (j_X7_take_58 x0 x1 M)
def l_X7_take_30 (x0 x1 x2 : Int) (M : MM) : Option (Int × MM) := lpN (fun s : Int × MM => b_X7_take_30 x0 x1 s.1 s.2) FU (x2, M)
def f_X7_take (x0 : Int) (M : MM) : Option (Int × MM) :=
  (gfr 7 1 x0 M).bind fun v1 =>
  (lar 5 v1 0 M).bind fun v2 =>
  (gfr 7 5 x0 M).bind fun v3 =>
  (gfr 25 3 v2 M).bind fun v4 =>
  ck 4 v3 M <| (f_X4_copy v3 v4 M).bind fun M1 =>
  (gfi 7 2 x0 M1).bind fun v5 =>
  (pfi 7 2 x0 (v5 - 1) M1).bind fun M2 =>
  l_X7_take_30 x0 v2 0 M2
theorem s_X7_take_58 {g : GG} {d : Nat} (hD : 2 ≤ d) {x0 x1 : Int} {M : MM} {o : AV × MM} {P : (Int × MM) → Prop} (r0 : ∀ r : Int × MM, P r → o = ((1, r.1), r.2)) {z : Int × MM} (h : j_X7_take_58 x0 x1 M = some z) (hz : P z) : Sem g d YX7_take 58 [(1, x0), (1, x1), (9, 0)] [] M o := by
  delta j_X7_take_58 at h
  refine S_aload_n (i := 0) dX7_take_58 rfl rfl ?_
  refine P_gfr FLX7_17 rfl dX7_take_59 h (fun v1 h => ?_)
  refine S_aload_n (i := 0) dX7_take_62 rfl rfl ?_
  refine P_gfi FLX7_38 rfl dX7_take_63 h (fun v2 h => ?_)
  refine S_aload_n (i := 1) dX7_take_66 rfl rfl ?_
  refine P_sar (t := 5) ⟨by decide, by decide⟩ dX7_take_67 h (fun M1 h => ?_)
  refine S_aload_n (i := 1) dX7_take_68 rfl rfl ?_
  obtain rfl := r0 _ (some_P (P := fun r => P r) h hz)
  exact S_areturn dX7_take_69 ⟨_, rfl, Or.inl ⟨_, rfl⟩⟩
theorem s_X7_take_30 {g : GG} {d : Nat} (hD : 2 ≤ d) {x0 x1 x2 : Int} {M : MM} {o : AV × MM} {P : ((Int × MM) ⊕ (Int × MM)) → Prop} (c0 : ∀ s : Int × MM, P (.inl s) → Sem g d YX7_take 30 [(1, x0), (1, x1), (0, s.1)] [] s.2 o) (r0 : ∀ r : Int × MM, P (.inr r) → o = ((1, r.1), r.2)) {z : (Int × MM) ⊕ (Int × MM)} (h : b_X7_take_30 x0 x1 x2 M = some z) (hz : P z) : Sem g d YX7_take 30 [(1, x0), (1, x1), (0, x2)] [] M o := by
  delta b_X7_take_30 at h
  refine S_iload_n (i := 2) dX7_take_30 rfl rfl ?_
  refine S_aload_n (i := 0) dX7_take_31 rfl rfl ?_
  refine P_gfi FLX7_38 rfl dX7_take_32 h (fun v1 h => ?_)
  refine P_icmp_ge (tgt := 58) dX7_take_35 rfl h (fun h => ?_) (fun h => ?_)
  · refine S_weak (ls' := [(1, x0), (1, x1), (9, 0)]) ⟨Or.inr rfl, ⟨Or.inr rfl, ⟨Or.inl rfl, trivial⟩⟩⟩ ?_
    obtain ⟨z0, h, hz⟩ := xit_some' (P := fun r => P r) h hz
    exact s_X7_take_58 hD (P := fun r => P (.inr r)) r0 h hz
  · refine S_aload_n (i := 0) dX7_take_38 rfl rfl ?_
    refine P_gfr FLX7_17 rfl dX7_take_39 h (fun v2 h => ?_)
    refine S_iload_n (i := 2) dX7_take_42 rfl rfl ?_
    refine S_aload_n (i := 0) dX7_take_43 rfl rfl ?_
    refine P_gfr FLX7_17 rfl dX7_take_44 h (fun v3 h => ?_)
    refine S_iload_n (i := 2) dX7_take_47 rfl rfl ?_
    refine S_iconst dX7_take_48 rfl ?_
    refine S_iadd dX7_take_49 ?_
    refine P_lar (t := 5) ⟨by decide, by decide⟩ dX7_take_50 h (fun v4 h => ?_)
    refine P_sar (t := 5) ⟨by decide, by decide⟩ dX7_take_51 h (fun M1 h => ?_)
    refine S_iinc dX7_take_52 rfl rfl rfl ?_
    change Sem g d YX7_take 55 [(1, x0), (1, x1), (0, x2 + 1)] [] M1 o
    refine S_goto (tgt := 30) dX7_take_55 rfl ?_
    exact c0 (x2 + 1, M1) (some_P (P := fun r => P r) h hz)
theorem sl_X7_take_30 {g : GG} {d : Nat} (hD : 2 ≤ d) {x0 x1 x2 : Int} {M : MM} {o : AV × MM} {P : (Int × MM) → Prop} (r0 : ∀ r : Int × MM, P r → o = ((1, r.1), r.2)) {z : Int × MM} (h : l_X7_take_30 x0 x1 x2 M = some z) (hz : P z) : Sem g d YX7_take 30 [(1, x0), (1, x1), (0, x2)] [] M o := by
  refine lp_sound (S := fun s : Int × MM => Sem g d YX7_take 30 [(1, x0), (1, x1), (0, s.1)] [] s.2 o) (P := P) ?_ FU (x2, M) z h hz
  intro s x hx hP
  exact s_X7_take_30 hD (P := Sum.elim (fun s : Int × MM => Sem g d YX7_take 30 [(1, x0), (1, x1), (0, s.1)] [] s.2 o) P) (fun s h => h) (fun s h => r0 s h) hx hP
theorem s_X7_take_0 {g : GG} {d : Nat} (hD : 2 ≤ d) {x0 : Int} {M : MM} {o : AV × MM} {P : (Int × MM) → Prop} (r0 : ∀ r : Int × MM, P r → o = ((1, r.1), r.2)) {z : Int × MM} (h : f_X7_take x0 M = some z) (hz : P z) : Sem g d YX7_take 0 [(1, x0), (9, 0), (9, 0)] [] M o := by
  delta f_X7_take at h
  refine S_aload_n (i := 0) dX7_take_0 rfl rfl ?_
  refine P_gfr FLX7_17 rfl dX7_take_1 h (fun v1 h => ?_)
  refine S_iconst dX7_take_4 rfl ?_
  refine P_lar (t := 5) ⟨by decide, by decide⟩ dX7_take_5 h (fun v2 h => ?_)
  refine S_astore_n (i := 1) dX7_take_6 rfl (Nat.le_of_ble_eq_true rfl) rfl rfl ?_
  change Sem g d YX7_take 7 [(1, x0), (1, v2), (9, 0)] [] M o
  refine S_aload_n (i := 0) dX7_take_7 rfl rfl ?_
  refine P_gfr FLX7_24 rfl dX7_take_8 h (fun v3 h => ?_)
  refine S_aload_n (i := 1) dX7_take_11 rfl rfl ?_
  refine P_gfr FLX7_52 rfl dX7_take_12 h (fun v4 h => ?_)
  refine P_invVm' [(1, v4)] [] CVX4_copy MLX7_55 dX7_take_15 rfl rfl rfl rfl (by omega) h (fun r h => F_X4_copy (by omega) h) (fun M1 h => ?_)
  refine S_aload_n (i := 0) dX7_take_18 rfl rfl ?_
  refine S_dup dX7_take_19 (Nat.le_of_ble_eq_true rfl) ?_
  refine P_gfi FLX7_38 rfl dX7_take_20 h (fun v5 h => ?_)
  refine S_iconst dX7_take_23 rfl ?_
  refine S_isub dX7_take_24 ?_
  refine P_pfi FLX7_38 FPX7_38 rfl dX7_take_25 h (fun M2 h => ?_)
  refine S_iconst dX7_take_28 rfl ?_
  refine S_istore_n (i := 2) dX7_take_29 rfl (Nat.le_of_ble_eq_true rfl) rfl rfl ?_
  change Sem g d YX7_take 30 [(1, x0), (1, v2), (0, 0)] [] M2 o
  exact sl_X7_take_30 hD r0 h hz
theorem F_X7_take {g : GG} {d : Nat} (hD : 2 ≤ d) {x0 : Int} {M : MM} {r : Int × MM} (h : f_X7_take x0 M = some r) : Sem g d YX7_take 0 (ini YX7_take [(1, x0)]) [] M ((1, r.1), r.2) := by
  change Sem g d YX7_take 0 [(1, x0), (9, 0), (9, 0)] [] M ((1, r.1), r.2)
  exact s_X7_take_0 hD (P := fun x => x = r) (fun q e => by rw [e]) h rfl
/-! PeerSearch$Packet.isAtLeast(I)Z -/
theorem dX4_isAtLeast_0 : decode cX4_isAtLeast 0 = .ok (.aload_n 0, 1) := by decide +kernel
theorem dX4_isAtLeast_1 : decode cX4_isAtLeast 1 = .ok (.getfield 15, 3) := by decide +kernel
theorem dX4_isAtLeast_4 : decode cX4_isAtLeast 4 = .ok (.bipush 25, 2) := by decide +kernel
theorem dX4_isAtLeast_6 : decode cX4_isAtLeast 6 = .ok (.iload_n 1, 1) := by decide +kernel
theorem dX4_isAtLeast_7 : decode cX4_isAtLeast 7 = .ok (.iadd, 1) := by decide +kernel
theorem dX4_isAtLeast_8 : decode cX4_isAtLeast 8 = .ok (.if_icmp .lt 7, 3) := by decide +kernel
theorem dX4_isAtLeast_11 : decode cX4_isAtLeast 11 = .ok (.iconst 1, 1) := by decide +kernel
theorem dX4_isAtLeast_12 : decode cX4_isAtLeast 12 = .ok (.goto 4, 3) := by decide +kernel
theorem dX4_isAtLeast_15 : decode cX4_isAtLeast 15 = .ok (.iconst 0, 1) := by decide +kernel
theorem dX4_isAtLeast_16 : decode cX4_isAtLeast 16 = .ok (.ireturn, 1) := by decide +kernel
def j_X4_isAtLeast_16 (y0 : Int) (M : MM) : Option (Int) :=
  bz y0 (some y0)
def f_X4_isAtLeast (x0 x1 : Int) (M : MM) : Option (Int) :=
  (gfi 4 1 x0 M).bind fun v1 =>
  if w32 v1 < w32 (25 + x1) then
    j_X4_isAtLeast_16 0 M
  else
    j_X4_isAtLeast_16 1 M
theorem s_X4_isAtLeast_16 {g : GG} {d : Nat} (hD : 0 ≤ d) {y0 : Int} {M : MM} {o : AV × MM} {P : (Int) → Prop} (r0 : ∀ r : Int, P r → o = ((0, r), M)) {z : Int} (h : j_X4_isAtLeast_16 y0 M = some z) (hz : P z) : Sem g d YX4_isAtLeast 16 [(9, 0), (9, 0)] [(0, y0)] M o := by
  delta j_X4_isAtLeast_16 at h
  obtain ⟨hb, h⟩ := bz_some h
  obtain rfl := r0 _ (some_P (P := fun r => P r) h hz)
  exact P_ret dX4_isAtLeast_16 rfl (Or.inr ⟨rfl, hb⟩)
theorem s_X4_isAtLeast_0 {g : GG} {d : Nat} (hD : 0 ≤ d) {x0 x1 : Int} {M : MM} {o : AV × MM} {P : (Int) → Prop} (r0 : ∀ r : Int, P r → o = ((0, r), M)) {z : Int} (h : f_X4_isAtLeast x0 x1 M = some z) (hz : P z) : Sem g d YX4_isAtLeast 0 [(1, x0), (0, x1)] [] M o := by
  delta f_X4_isAtLeast at h
  refine S_aload_n (i := 0) dX4_isAtLeast_0 rfl rfl ?_
  refine P_gfi FLX4_15 rfl dX4_isAtLeast_1 h (fun v1 h => ?_)
  refine S_bipush (z := 25) dX4_isAtLeast_4 rfl ?_
  refine S_iload_n (i := 1) dX4_isAtLeast_6 rfl rfl ?_
  refine S_iadd dX4_isAtLeast_7 ?_
  refine P_icmp_lt (tgt := 15) dX4_isAtLeast_8 rfl h (fun h => ?_) (fun h => ?_)
  · refine S_iconst dX4_isAtLeast_15 rfl ?_
    refine S_weak (ls' := [(9, 0), (9, 0)]) ⟨Or.inl rfl, ⟨Or.inl rfl, trivial⟩⟩ ?_
    exact s_X4_isAtLeast_16 hD r0 h hz
  · refine S_iconst dX4_isAtLeast_11 rfl ?_
    refine S_goto (tgt := 16) dX4_isAtLeast_12 rfl ?_
    refine S_weak (ls' := [(9, 0), (9, 0)]) ⟨Or.inl rfl, ⟨Or.inl rfl, trivial⟩⟩ ?_
    exact s_X4_isAtLeast_16 hD r0 h hz
theorem F_X4_isAtLeast {g : GG} {d : Nat} (hD : 0 ≤ d) {x0 x1 : Int} {M : MM} {r : Int} (h : f_X4_isAtLeast x0 x1 M = some r) : Sem g d YX4_isAtLeast 0 (ini YX4_isAtLeast [(1, x0), (0, x1)]) [] M ((0, r), M) := by
  change Sem g d YX4_isAtLeast 0 [(1, x0), (0, x1)] [] M ((0, r), M)
  exact s_X4_isAtLeast_0 hD (P := fun x => x = r) (fun q e => by rw [e]) h rfl
/-! PeerSearch$Packet.isLong(I)Z -/
theorem dX4_isLong_0 : decode cX4_isLong 0 = .ok (.aload_n 0, 1) := by decide +kernel
theorem dX4_isLong_1 : decode cX4_isLong 1 = .ok (.getfield 15, 3) := by decide +kernel
theorem dX4_isLong_4 : decode cX4_isLong 4 = .ok (.bipush 25, 2) := by decide +kernel
theorem dX4_isLong_6 : decode cX4_isLong 6 = .ok (.iload_n 1, 1) := by decide +kernel
theorem dX4_isLong_7 : decode cX4_isLong 7 = .ok (.iadd, 1) := by decide +kernel
theorem dX4_isLong_8 : decode cX4_isLong 8 = .ok (.if_icmp .ne 7, 3) := by decide +kernel
theorem dX4_isLong_11 : decode cX4_isLong 11 = .ok (.iconst 1, 1) := by decide +kernel
theorem dX4_isLong_12 : decode cX4_isLong 12 = .ok (.goto 4, 3) := by decide +kernel
theorem dX4_isLong_15 : decode cX4_isLong 15 = .ok (.iconst 0, 1) := by decide +kernel
theorem dX4_isLong_16 : decode cX4_isLong 16 = .ok (.ireturn, 1) := by decide +kernel
def j_X4_isLong_16 (y0 : Int) (M : MM) : Option (Int) :=
  bz y0 (some y0)
def f_X4_isLong (x0 x1 : Int) (M : MM) : Option (Int) :=
  (gfi 4 1 x0 M).bind fun v1 =>
  if w32 v1 = w32 (25 + x1) then
    j_X4_isLong_16 1 M
  else
    j_X4_isLong_16 0 M
theorem s_X4_isLong_16 {g : GG} {d : Nat} (hD : 0 ≤ d) {y0 : Int} {M : MM} {o : AV × MM} {P : (Int) → Prop} (r0 : ∀ r : Int, P r → o = ((0, r), M)) {z : Int} (h : j_X4_isLong_16 y0 M = some z) (hz : P z) : Sem g d YX4_isLong 16 [(9, 0), (9, 0)] [(0, y0)] M o := by
  delta j_X4_isLong_16 at h
  obtain ⟨hb, h⟩ := bz_some h
  obtain rfl := r0 _ (some_P (P := fun r => P r) h hz)
  exact P_ret dX4_isLong_16 rfl (Or.inr ⟨rfl, hb⟩)
theorem s_X4_isLong_0 {g : GG} {d : Nat} (hD : 0 ≤ d) {x0 x1 : Int} {M : MM} {o : AV × MM} {P : (Int) → Prop} (r0 : ∀ r : Int, P r → o = ((0, r), M)) {z : Int} (h : f_X4_isLong x0 x1 M = some z) (hz : P z) : Sem g d YX4_isLong 0 [(1, x0), (0, x1)] [] M o := by
  delta f_X4_isLong at h
  refine S_aload_n (i := 0) dX4_isLong_0 rfl rfl ?_
  refine P_gfi FLX4_15 rfl dX4_isLong_1 h (fun v1 h => ?_)
  refine S_bipush (z := 25) dX4_isLong_4 rfl ?_
  refine S_iload_n (i := 1) dX4_isLong_6 rfl rfl ?_
  refine S_iadd dX4_isLong_7 ?_
  refine P_icmp_ne (tgt := 15) dX4_isLong_8 rfl h (fun h => ?_) (fun h => ?_)
  · refine S_iconst dX4_isLong_15 rfl ?_
    refine S_weak (ls' := [(9, 0), (9, 0)]) ⟨Or.inl rfl, ⟨Or.inl rfl, trivial⟩⟩ ?_
    exact s_X4_isLong_16 hD r0 h hz
  · refine S_iconst dX4_isLong_11 rfl ?_
    refine S_goto (tgt := 16) dX4_isLong_12 rfl ?_
    refine S_weak (ls' := [(9, 0), (9, 0)]) ⟨Or.inl rfl, ⟨Or.inl rfl, trivial⟩⟩ ?_
    exact s_X4_isLong_16 hD r0 h hz
theorem F_X4_isLong {g : GG} {d : Nat} (hD : 0 ≤ d) {x0 x1 : Int} {M : MM} {r : Int} (h : f_X4_isLong x0 x1 M = some r) : Sem g d YX4_isLong 0 (ini YX4_isLong [(1, x0), (0, x1)]) [] M ((0, r), M) := by
  change Sem g d YX4_isLong 0 [(1, x0), (0, x1)] [] M ((0, r), M)
  exact s_X4_isLong_0 hD (P := fun x => x = r) (fun q e => by rw [e]) h rfl
/-! PeerSearch$Packet.areBits(I)Z -/
theorem dX4_areBits_0 : decode cX4_areBits 0 = .ok (.aload_n 0, 1) := by decide +kernel
theorem dX4_areBits_1 : decode cX4_areBits 1 = .ok (.iload_n 1, 1) := by decide +kernel
theorem dX4_areBits_2 : decode cX4_areBits 2 = .ok (.iconst 3, 1) := by decide +kernel
theorem dX4_areBits_3 : decode cX4_areBits 3 = .ok (.iadd, 1) := by decide +kernel
theorem dX4_areBits_4 : decode cX4_areBits 4 = .ok (.invokevirtual 43, 3) := by decide +kernel
theorem dX4_areBits_7 : decode cX4_areBits 7 = .ok (.ifCond .ne 5, 3) := by decide +kernel
theorem dX4_areBits_10 : decode cX4_areBits 10 = .ok (.iconst 0, 1) := by decide +kernel
theorem dX4_areBits_11 : decode cX4_areBits 11 = .ok (.ireturn, 1) := by decide +kernel
theorem dX4_areBits_12 : decode cX4_areBits 12 = .ok (.aload_n 0, 1) := by decide +kernel
theorem dX4_areBits_13 : decode cX4_areBits 13 = .ok (.bipush 25, 2) := by decide +kernel
theorem dX4_areBits_15 : decode cX4_areBits 15 = .ok (.iload_n 1, 1) := by decide +kernel
theorem dX4_areBits_16 : decode cX4_areBits 16 = .ok (.iadd, 1) := by decide +kernel
theorem dX4_areBits_17 : decode cX4_areBits 17 = .ok (.iconst 1, 1) := by decide +kernel
theorem dX4_areBits_18 : decode cX4_areBits 18 = .ok (.invokevirtual 33, 3) := by decide +kernel
theorem dX4_areBits_21 : decode cX4_areBits 21 = .ok (.istore_n 2, 1) := by decide +kernel
theorem dX4_areBits_22 : decode cX4_areBits 22 = .ok (.aload_n 0, 1) := by decide +kernel
theorem dX4_areBits_23 : decode cX4_areBits 23 = .ok (.bipush 25, 2) := by decide +kernel
theorem dX4_areBits_25 : decode cX4_areBits 25 = .ok (.iload_n 1, 1) := by decide +kernel
theorem dX4_areBits_26 : decode cX4_areBits 26 = .ok (.iadd, 1) := by decide +kernel
theorem dX4_areBits_27 : decode cX4_areBits 27 = .ok (.iconst 1, 1) := by decide +kernel
theorem dX4_areBits_28 : decode cX4_areBits 28 = .ok (.iadd, 1) := by decide +kernel
theorem dX4_areBits_29 : decode cX4_areBits 29 = .ok (.iconst 2, 1) := by decide +kernel
theorem dX4_areBits_30 : decode cX4_areBits 30 = .ok (.invokevirtual 33, 3) := by decide +kernel
theorem dX4_areBits_33 : decode cX4_areBits 33 = .ok (.istore_n 3, 1) := by decide +kernel
theorem dX4_areBits_34 : decode cX4_areBits 34 = .ok (.iload_n 2, 1) := by decide +kernel
theorem dX4_areBits_35 : decode cX4_areBits 35 = .ok (.iconst 1, 1) := by decide +kernel
theorem dX4_areBits_36 : decode cX4_areBits 36 = .ok (.if_icmp .lt 32, 3) := by decide +kernel
theorem dX4_areBits_39 : decode cX4_areBits 39 = .ok (.iload_n 2, 1) := by decide +kernel
theorem dX4_areBits_40 : decode cX4_areBits 40 = .ok (.bipush 8, 2) := by decide +kernel
theorem dX4_areBits_42 : decode cX4_areBits 42 = .ok (.if_icmp .gt 26, 3) := by decide +kernel
theorem dX4_areBits_45 : decode cX4_areBits 45 = .ok (.iload_n 3, 1) := by decide +kernel
theorem dX4_areBits_46 : decode cX4_areBits 46 = .ok (.sipush 290, 3) := by decide +kernel
theorem dX4_areBits_49 : decode cX4_areBits 49 = .ok (.if_icmp .gt 19, 3) := by decide +kernel
theorem dX4_areBits_52 : decode cX4_areBits 52 = .ok (.aload_n 0, 1) := by decide +kernel
theorem dX4_areBits_53 : decode cX4_areBits 53 = .ok (.iload_n 1, 1) := by decide +kernel
theorem dX4_areBits_54 : decode cX4_areBits 54 = .ok (.iconst 3, 1) := by decide +kernel
theorem dX4_areBits_55 : decode cX4_areBits 55 = .ok (.iadd, 1) := by decide +kernel
theorem dX4_areBits_56 : decode cX4_areBits 56 = .ok (.iload_n 3, 1) := by decide +kernel
theorem dX4_areBits_57 : decode cX4_areBits 57 = .ok (.iadd, 1) := by decide +kernel
theorem dX4_areBits_58 : decode cX4_areBits 58 = .ok (.invokevirtual 47, 3) := by decide +kernel
theorem dX4_areBits_61 : decode cX4_areBits 61 = .ok (.ifCond .eq 7, 3) := by decide +kernel
theorem dX4_areBits_64 : decode cX4_areBits 64 = .ok (.iconst 1, 1) := by decide +kernel
theorem dX4_areBits_65 : decode cX4_areBits 65 = .ok (.goto 4, 3) := by decide +kernel
theorem dX4_areBits_68 : decode cX4_areBits 68 = .ok (.iconst 0, 1) := by decide +kernel
theorem dX4_areBits_69 : decode cX4_areBits 69 = .ok (.ireturn, 1) := by decide +kernel
def j_X4_areBits_69 (y0 : Int) (M : MM) : Option (Int) :=
  bz y0 (some y0)
def j_X4_areBits_68 (M : MM) : Option (Int) :=
  j_X4_areBits_69 0 M
def f_X4_areBits (x0 x1 : Int) (M : MM) : Option (Int) :=
  ck 4 x0 M <| (f_X4_isAtLeast x0 (x1 + 3) M).bind fun v1 =>
  if w32 v1 = 0 then
    some 0
  else
    ck 4 x0 M <| (f_X4_get x0 (25 + x1) 1 M).bind fun v2 =>
    ck 4 x0 M <| (f_X4_get x0 ((25 + x1) + 1) 2 M).bind fun v3 =>
    if w32 v2 < w32 1 then
      j_X4_areBits_68 M
    else
      if w32 8 < w32 v2 then
        j_X4_areBits_68 M
      else
        if w32 290 < w32 v3 then
          j_X4_areBits_68 M
        else
          ck 4 x0 M <| (f_X4_isLong x0 ((x1 + 3) + v3) M).bind fun v4 =>
          if w32 v4 = 0 then
            j_X4_areBits_68 M
          else
            j_X4_areBits_69 1 M
theorem s_X4_areBits_69 {g : GG} {d : Nat} (hD : 1 ≤ d) {y0 : Int} {M : MM} {o : AV × MM} {P : (Int) → Prop} (r0 : ∀ r : Int, P r → o = ((0, r), M)) {z : Int} (h : j_X4_areBits_69 y0 M = some z) (hz : P z) : Sem g d YX4_areBits 69 [(9, 0), (9, 0), (9, 0), (9, 0)] [(0, y0)] M o := by
  delta j_X4_areBits_69 at h
  obtain ⟨hb, h⟩ := bz_some h
  obtain rfl := r0 _ (some_P (P := fun r => P r) h hz)
  exact P_ret dX4_areBits_69 rfl (Or.inr ⟨rfl, hb⟩)
theorem s_X4_areBits_68 {g : GG} {d : Nat} (hD : 1 ≤ d) {M : MM} {o : AV × MM} {P : (Int) → Prop} (r0 : ∀ r : Int, P r → o = ((0, r), M)) {z : Int} (h : j_X4_areBits_68 M = some z) (hz : P z) : Sem g d YX4_areBits 68 [(9, 0), (9, 0), (9, 0), (9, 0)] [] M o := by
  delta j_X4_areBits_68 at h
  refine S_iconst dX4_areBits_68 rfl ?_
  exact s_X4_areBits_69 hD r0 h hz
theorem s_X4_areBits_0 {g : GG} {d : Nat} (hD : 1 ≤ d) {x0 x1 : Int} {M : MM} {o : AV × MM} {P : (Int) → Prop} (r0 : ∀ r : Int, P r → o = ((0, r), M)) {z : Int} (h : f_X4_areBits x0 x1 M = some z) (hz : P z) : Sem g d YX4_areBits 0 [(1, x0), (0, x1), (9, 0), (9, 0)] [] M o := by
  delta f_X4_areBits at h
  refine S_aload_n (i := 0) dX4_areBits_0 rfl rfl ?_
  refine S_iload_n (i := 1) dX4_areBits_1 rfl rfl ?_
  refine S_iconst dX4_areBits_2 rfl ?_
  refine S_iadd dX4_areBits_3 ?_
  refine P_invVp 0 [(0, x1 + 3)] [] CVX4_isAtLeast MLX4_43 dX4_areBits_4 rfl rfl rfl rfl rfl (by omega) h (fun r h => F_X4_isAtLeast (by omega) h) (fun v1 h => ?_)
  refine P_if_ne (tgt := 12) dX4_areBits_7 rfl h (fun h => ?_) (fun h => ?_)
  · refine S_aload_n (i := 0) dX4_areBits_12 rfl rfl ?_
    refine S_bipush (z := 25) dX4_areBits_13 rfl ?_
    refine S_iload_n (i := 1) dX4_areBits_15 rfl rfl ?_
    refine S_iadd dX4_areBits_16 ?_
    refine S_iconst dX4_areBits_17 rfl ?_
    refine P_invVp 0 [(0, 25 + x1), (0, 1)] [] CVX4_get MLX4_33 dX4_areBits_18 rfl rfl rfl rfl rfl (by omega) h (fun r h => F_X4_get (by omega) h) (fun v2 h => ?_)
    refine S_istore_n (i := 2) dX4_areBits_21 rfl (Nat.le_of_ble_eq_true rfl) rfl rfl ?_
    change Sem g d YX4_areBits 22 [(1, x0), (0, x1), (0, v2), (9, 0)] [] M o
    refine S_aload_n (i := 0) dX4_areBits_22 rfl rfl ?_
    refine S_bipush (z := 25) dX4_areBits_23 rfl ?_
    refine S_iload_n (i := 1) dX4_areBits_25 rfl rfl ?_
    refine S_iadd dX4_areBits_26 ?_
    refine S_iconst dX4_areBits_27 rfl ?_
    refine S_iadd dX4_areBits_28 ?_
    refine S_iconst dX4_areBits_29 rfl ?_
    refine P_invVp 0 [(0, (25 + x1) + 1), (0, 2)] [] CVX4_get MLX4_33 dX4_areBits_30 rfl rfl rfl rfl rfl (by omega) h (fun r h => F_X4_get (by omega) h) (fun v3 h => ?_)
    refine S_istore_n (i := 3) dX4_areBits_33 rfl (Nat.le_of_ble_eq_true rfl) rfl rfl ?_
    change Sem g d YX4_areBits 34 [(1, x0), (0, x1), (0, v2), (0, v3)] [] M o
    refine S_iload_n (i := 2) dX4_areBits_34 rfl rfl ?_
    refine S_iconst dX4_areBits_35 rfl ?_
    refine P_icmp_lt (tgt := 68) dX4_areBits_36 rfl h (fun h => ?_) (fun h => ?_)
    · refine S_weak (ls' := [(9, 0), (9, 0), (9, 0), (9, 0)]) ⟨Or.inl rfl, ⟨Or.inl rfl, ⟨Or.inl rfl, ⟨Or.inl rfl, trivial⟩⟩⟩⟩ ?_
      exact s_X4_areBits_68 hD r0 h hz
    · refine S_iload_n (i := 2) dX4_areBits_39 rfl rfl ?_
      refine S_bipush (z := 8) dX4_areBits_40 rfl ?_
      refine P_icmp_gt (tgt := 68) dX4_areBits_42 rfl h (fun h => ?_) (fun h => ?_)
      · refine S_weak (ls' := [(9, 0), (9, 0), (9, 0), (9, 0)]) ⟨Or.inl rfl, ⟨Or.inl rfl, ⟨Or.inl rfl, ⟨Or.inl rfl, trivial⟩⟩⟩⟩ ?_
        exact s_X4_areBits_68 hD r0 h hz
      · refine S_iload_n (i := 3) dX4_areBits_45 rfl rfl ?_
        refine S_sipush (z := 290) dX4_areBits_46 rfl ?_
        refine P_icmp_gt (tgt := 68) dX4_areBits_49 rfl h (fun h => ?_) (fun h => ?_)
        · refine S_weak (ls' := [(9, 0), (9, 0), (9, 0), (9, 0)]) ⟨Or.inl rfl, ⟨Or.inl rfl, ⟨Or.inl rfl, ⟨Or.inl rfl, trivial⟩⟩⟩⟩ ?_
          exact s_X4_areBits_68 hD r0 h hz
        · refine S_aload_n (i := 0) dX4_areBits_52 rfl rfl ?_
          refine S_iload_n (i := 1) dX4_areBits_53 rfl rfl ?_
          refine S_iconst dX4_areBits_54 rfl ?_
          refine S_iadd dX4_areBits_55 ?_
          refine S_iload_n (i := 3) dX4_areBits_56 rfl rfl ?_
          refine S_iadd dX4_areBits_57 ?_
          refine P_invVp 0 [(0, (x1 + 3) + v3)] [] CVX4_isLong MLX4_47 dX4_areBits_58 rfl rfl rfl rfl rfl (by omega) h (fun r h => F_X4_isLong (by omega) h) (fun v4 h => ?_)
          refine P_if_eq (tgt := 68) dX4_areBits_61 rfl h (fun h => ?_) (fun h => ?_)
          · refine S_weak (ls' := [(9, 0), (9, 0), (9, 0), (9, 0)]) ⟨Or.inl rfl, ⟨Or.inl rfl, ⟨Or.inl rfl, ⟨Or.inl rfl, trivial⟩⟩⟩⟩ ?_
            exact s_X4_areBits_68 hD r0 h hz
          · refine S_iconst dX4_areBits_64 rfl ?_
            refine S_goto (tgt := 69) dX4_areBits_65 rfl ?_
            refine S_weak (ls' := [(9, 0), (9, 0), (9, 0), (9, 0)]) ⟨Or.inl rfl, ⟨Or.inl rfl, ⟨Or.inl rfl, ⟨Or.inl rfl, trivial⟩⟩⟩⟩ ?_
            exact s_X4_areBits_69 hD r0 h hz
  · refine S_iconst dX4_areBits_10 rfl ?_
    obtain rfl := r0 _ (some_P (P := fun r => P r) h hz)
    exact P_ret dX4_areBits_11 rfl (Or.inr ⟨rfl, Or.inl rfl⟩)
theorem F_X4_areBits {g : GG} {d : Nat} (hD : 1 ≤ d) {x0 x1 : Int} {M : MM} {r : Int} (h : f_X4_areBits x0 x1 M = some r) : Sem g d YX4_areBits 0 (ini YX4_areBits [(1, x0), (0, x1)]) [] M ((0, r), M) := by
  change Sem g d YX4_areBits 0 [(1, x0), (0, x1), (9, 0), (9, 0)] [] M ((0, r), M)
  exact s_X4_areBits_0 hD (P := fun x => x = r) (fun q e => by rw [e]) h rfl
/-! PeerSearch$Packet.areNodes(I)Z -/
theorem dX4_areNodes_0 : decode cX4_areNodes 0 = .ok (.aload_n 0, 1) := by decide +kernel
theorem dX4_areNodes_1 : decode cX4_areNodes 1 = .ok (.iload_n 1, 1) := by decide +kernel
theorem dX4_areNodes_2 : decode cX4_areNodes 2 = .ok (.iconst 1, 1) := by decide +kernel
theorem dX4_areNodes_3 : decode cX4_areNodes 3 = .ok (.iadd, 1) := by decide +kernel
theorem dX4_areNodes_4 : decode cX4_areNodes 4 = .ok (.invokevirtual 43, 3) := by decide +kernel
theorem dX4_areNodes_7 : decode cX4_areNodes 7 = .ok (.ifCond .ne 5, 3) := by decide +kernel
theorem dX4_areNodes_10 : decode cX4_areNodes 10 = .ok (.iconst 0, 1) := by decide +kernel
theorem dX4_areNodes_11 : decode cX4_areNodes 11 = .ok (.ireturn, 1) := by decide +kernel
theorem dX4_areNodes_12 : decode cX4_areNodes 12 = .ok (.aload_n 0, 1) := by decide +kernel
theorem dX4_areNodes_13 : decode cX4_areNodes 13 = .ok (.bipush 25, 2) := by decide +kernel
theorem dX4_areNodes_15 : decode cX4_areNodes 15 = .ok (.iload_n 1, 1) := by decide +kernel
theorem dX4_areNodes_16 : decode cX4_areNodes 16 = .ok (.iadd, 1) := by decide +kernel
theorem dX4_areNodes_17 : decode cX4_areNodes 17 = .ok (.iconst 1, 1) := by decide +kernel
theorem dX4_areNodes_18 : decode cX4_areNodes 18 = .ok (.invokevirtual 33, 3) := by decide +kernel
theorem dX4_areNodes_21 : decode cX4_areNodes 21 = .ok (.istore_n 2, 1) := by decide +kernel
theorem dX4_areNodes_22 : decode cX4_areNodes 22 = .ok (.iload_n 2, 1) := by decide +kernel
theorem dX4_areNodes_23 : decode cX4_areNodes 23 = .ok (.bipush 20, 2) := by decide +kernel
theorem dX4_areNodes_25 : decode cX4_areNodes 25 = .ok (.if_icmp .gt 22, 3) := by decide +kernel
theorem dX4_areNodes_28 : decode cX4_areNodes 28 = .ok (.aload_n 0, 1) := by decide +kernel
theorem dX4_areNodes_29 : decode cX4_areNodes 29 = .ok (.iload_n 1, 1) := by decide +kernel
theorem dX4_areNodes_30 : decode cX4_areNodes 30 = .ok (.iconst 1, 1) := by decide +kernel
theorem dX4_areNodes_31 : decode cX4_areNodes 31 = .ok (.iadd, 1) := by decide +kernel
theorem dX4_areNodes_32 : decode cX4_areNodes 32 = .ok (.bipush 21, 2) := by decide +kernel
theorem dX4_areNodes_34 : decode cX4_areNodes 34 = .ok (.iload_n 2, 1) := by decide +kernel
theorem dX4_areNodes_35 : decode cX4_areNodes 35 = .ok (.imul, 1) := by decide +kernel
theorem dX4_areNodes_36 : decode cX4_areNodes 36 = .ok (.iadd, 1) := by decide +kernel
theorem dX4_areNodes_37 : decode cX4_areNodes 37 = .ok (.invokevirtual 47, 3) := by decide +kernel
theorem dX4_areNodes_40 : decode cX4_areNodes 40 = .ok (.ifCond .eq 7, 3) := by decide +kernel
theorem dX4_areNodes_43 : decode cX4_areNodes 43 = .ok (.iconst 1, 1) := by decide +kernel
theorem dX4_areNodes_44 : decode cX4_areNodes 44 = .ok (.goto 4, 3) := by decide +kernel
theorem dX4_areNodes_47 : decode cX4_areNodes 47 = .ok (.iconst 0, 1) := by decide +kernel
theorem dX4_areNodes_48 : decode cX4_areNodes 48 = .ok (.istore_n 3, 1) := by decide +kernel
theorem dX4_areNodes_49 : decode cX4_areNodes 49 = .ok (.iconst 0, 1) := by decide +kernel
theorem dX4_areNodes_50 : decode cX4_areNodes 50 = .ok (.istore 4, 2) := by decide +kernel
theorem dX4_areNodes_52 : decode cX4_areNodes 52 = .ok (.iload 4, 2) := by decide +kernel
theorem dX4_areNodes_54 : decode cX4_areNodes 54 = .ok (.iload_n 2, 1) := by decide +kernel
theorem dX4_areNodes_55 : decode cX4_areNodes 55 = .ok (.if_icmp .ge 44, 3) := by decide +kernel
theorem dX4_areNodes_58 : decode cX4_areNodes 58 = .ok (.iload_n 3, 1) := by decide +kernel
theorem dX4_areNodes_59 : decode cX4_areNodes 59 = .ok (.ifCond .eq 40, 3) := by decide +kernel
theorem dX4_areNodes_62 : decode cX4_areNodes 62 = .ok (.aload_n 0, 1) := by decide +kernel
theorem dX4_areNodes_63 : decode cX4_areNodes 63 = .ok (.bipush 25, 2) := by decide +kernel
theorem dX4_areNodes_65 : decode cX4_areNodes 65 = .ok (.iload_n 1, 1) := by decide +kernel
theorem dX4_areNodes_66 : decode cX4_areNodes 66 = .ok (.iadd, 1) := by decide +kernel
theorem dX4_areNodes_67 : decode cX4_areNodes 67 = .ok (.iconst 1, 1) := by decide +kernel
theorem dX4_areNodes_68 : decode cX4_areNodes 68 = .ok (.iadd, 1) := by decide +kernel
theorem dX4_areNodes_69 : decode cX4_areNodes 69 = .ok (.bipush 21, 2) := by decide +kernel
theorem dX4_areNodes_71 : decode cX4_areNodes 71 = .ok (.iload 4, 2) := by decide +kernel
theorem dX4_areNodes_73 : decode cX4_areNodes 73 = .ok (.imul, 1) := by decide +kernel
theorem dX4_areNodes_74 : decode cX4_areNodes 74 = .ok (.iadd, 1) := by decide +kernel
theorem dX4_areNodes_75 : decode cX4_areNodes 75 = .ok (.bipush 20, 2) := by decide +kernel
theorem dX4_areNodes_77 : decode cX4_areNodes 77 = .ok (.iadd, 1) := by decide +kernel
theorem dX4_areNodes_78 : decode cX4_areNodes 78 = .ok (.iconst 1, 1) := by decide +kernel
theorem dX4_areNodes_79 : decode cX4_areNodes 79 = .ok (.invokevirtual 33, 3) := by decide +kernel
theorem dX4_areNodes_82 : decode cX4_areNodes 82 = .ok (.bipush 32, 2) := by decide +kernel
theorem dX4_areNodes_84 : decode cX4_areNodes 84 = .ok (.if_icmp .ge 7, 3) := by decide +kernel
theorem dX4_areNodes_87 : decode cX4_areNodes 87 = .ok (.iconst 1, 1) := by decide +kernel
theorem dX4_areNodes_88 : decode cX4_areNodes 88 = .ok (.goto 4, 3) := by decide +kernel
theorem dX4_areNodes_91 : decode cX4_areNodes 91 = .ok (.iconst 0, 1) := by decide +kernel
theorem dX4_areNodes_92 : decode cX4_areNodes 92 = .ok (.istore_n 3, 1) := by decide +kernel
theorem dX4_areNodes_93 : decode cX4_areNodes 93 = .ok (.iinc 4 1, 3) := by decide +kernel
theorem dX4_areNodes_96 : decode cX4_areNodes 96 = .ok (.goto (-44), 3) := by decide +kernel
theorem dX4_areNodes_99 : decode cX4_areNodes 99 = .ok (.iload_n 3, 1) := by decide +kernel
theorem dX4_areNodes_100 : decode cX4_areNodes 100 = .ok (.ireturn, 1) := by decide +kernel
def j_X4_areNodes_99 (x3 : Int) (M : MM) : Option (Int) :=
  bz x3 (some x3)
def j_X4_areNodes_92 (x0 x1 x2 x4 y0 : Int) (M : MM) : Option ((Int × Int) ⊕ (Int)) :=
  cnt (y0, x4 + 1)
def b_X4_areNodes_52 (x0 x1 x2 x3 x4 : Int) (M : MM) : Option ((Int × Int) ⊕ (Int)) :=
  if w32 x4 < w32 x2 then
    if w32 x3 = 0 then
      xit (j_X4_areNodes_99 x3 M)
    else
      ck 4 x0 M <| (f_X4_get x0 ((((25 + x1) + 1) + (21 * x4)) + 20) 1 M).bind fun v1 =>
      if w32 v1 < w32 32 then
        j_X4_areNodes_92 x0 x1 x2 x4 1 M
      else
        j_X4_areNodes_92 x0 x1 x2 x4 0 M
  else
    xit (j_X4_areNodes_99 x3 M)
def l_X4_areNodes_52 (x0 x1 x2 x3 x4 : Int) (M : MM) : Option (Int) := lpN (fun s : Int × Int => b_X4_areNodes_52 x0 x1 x2 s.1 s.2 M) FU (x3, x4)
def j_X4_areNodes_48 (x0 x1 x2 y0 : Int) (M : MM) : Option (Int) :=
  l_X4_areNodes_52 x0 x1 x2 y0 0 M
def j_X4_areNodes_47 (x0 x1 x2 : Int) (M : MM) : Option (Int) :=
  j_X4_areNodes_48 x0 x1 x2 0 M
def f_X4_areNodes (x0 x1 : Int) (M : MM) : Option (Int) :=
  ck 4 x0 M <| (f_X4_isAtLeast x0 (x1 + 1) M).bind fun v1 =>
  if w32 v1 = 0 then
    some 0
  else
    ck 4 x0 M <| (f_X4_get x0 (25 + x1) 1 M).bind fun v2 =>
    if w32 20 < w32 v2 then
      j_X4_areNodes_47 x0 x1 v2 M
    else
      ck 4 x0 M <| (f_X4_isLong x0 ((x1 + 1) + (21 * v2)) M).bind fun v3 =>
      if w32 v3 = 0 then
        j_X4_areNodes_47 x0 x1 v2 M
      else
        j_X4_areNodes_48 x0 x1 v2 1 M
theorem s_X4_areNodes_99 {g : GG} {d : Nat} (hD : 1 ≤ d) {x3 : Int} {M : MM} {o : AV × MM} {P : (Int) → Prop} (r0 : ∀ r : Int, P r → o = ((0, r), M)) {z : Int} (h : j_X4_areNodes_99 x3 M = some z) (hz : P z) : Sem g d YX4_areNodes 99 [(9, 0), (9, 0), (9, 0), (0, x3), (9, 0)] [] M o := by
  delta j_X4_areNodes_99 at h
  refine S_iload_n (i := 3) dX4_areNodes_99 rfl rfl ?_
  obtain ⟨hb, h⟩ := bz_some h
  obtain rfl := r0 _ (some_P (P := fun r => P r) h hz)
  exact P_ret dX4_areNodes_100 rfl (Or.inr ⟨rfl, hb⟩)
theorem s_X4_areNodes_92 {g : GG} {d : Nat} (hD : 1 ≤ d) {x0 x1 x2 x4 y0 : Int} {M : MM} {o : AV × MM} {P : ((Int × Int) ⊕ (Int)) → Prop} (c0 : ∀ s : Int × Int, P (.inl s) → Sem g d YX4_areNodes 52 [(1, x0), (0, x1), (0, x2), (0, s.1), (0, s.2)] [] M o) (r0 : ∀ r : Int, P (.inr r) → o = ((0, r), M)) {z : (Int × Int) ⊕ (Int)} (h : j_X4_areNodes_92 x0 x1 x2 x4 y0 M = some z) (hz : P z) : Sem g d YX4_areNodes 92 [(1, x0), (0, x1), (0, x2), (9, 0), (0, x4)] [(0, y0)] M o := by
  delta j_X4_areNodes_92 at h
  refine S_istore_n (i := 3) dX4_areNodes_92 rfl (Nat.le_of_ble_eq_true rfl) rfl rfl ?_
  change Sem g d YX4_areNodes 93 [(1, x0), (0, x1), (0, x2), (0, y0), (0, x4)] [] M o
  refine S_iinc dX4_areNodes_93 rfl rfl rfl ?_
  change Sem g d YX4_areNodes 96 [(1, x0), (0, x1), (0, x2), (0, y0), (0, x4 + 1)] [] M o
  refine S_goto (tgt := 52) dX4_areNodes_96 rfl ?_
  exact c0 (y0, x4 + 1) (some_P (P := fun r => P r) h hz)
theorem s_X4_areNodes_52 {g : GG} {d : Nat} (hD : 1 ≤ d) {x0 x1 x2 x3 x4 : Int} {M : MM} {o : AV × MM} {P : ((Int × Int) ⊕ (Int)) → Prop} (c0 : ∀ s : Int × Int, P (.inl s) → Sem g d YX4_areNodes 52 [(1, x0), (0, x1), (0, x2), (0, s.1), (0, s.2)] [] M o) (r0 : ∀ r : Int, P (.inr r) → o = ((0, r), M)) {z : (Int × Int) ⊕ (Int)} (h : b_X4_areNodes_52 x0 x1 x2 x3 x4 M = some z) (hz : P z) : Sem g d YX4_areNodes 52 [(1, x0), (0, x1), (0, x2), (0, x3), (0, x4)] [] M o := by
  delta b_X4_areNodes_52 at h
  refine S_iload dX4_areNodes_52 rfl ?_
  refine S_iload_n (i := 2) dX4_areNodes_54 rfl rfl ?_
  refine P_icmp_ge (tgt := 99) dX4_areNodes_55 rfl h (fun h => ?_) (fun h => ?_)
  · refine S_weak (ls' := [(9, 0), (9, 0), (9, 0), (0, x3), (9, 0)]) ⟨Or.inl rfl, ⟨Or.inl rfl, ⟨Or.inl rfl, ⟨Or.inr rfl, ⟨Or.inl rfl, trivial⟩⟩⟩⟩⟩ ?_
    obtain ⟨z0, h, hz⟩ := xit_some' (P := fun r => P r) h hz
    exact s_X4_areNodes_99 hD (P := fun r => P (.inr r)) r0 h hz
  · refine S_iload_n (i := 3) dX4_areNodes_58 rfl rfl ?_
    refine P_if_eq (tgt := 99) dX4_areNodes_59 rfl h (fun h => ?_) (fun h => ?_)
    · refine S_weak (ls' := [(9, 0), (9, 0), (9, 0), (0, x3), (9, 0)]) ⟨Or.inl rfl, ⟨Or.inl rfl, ⟨Or.inl rfl, ⟨Or.inr rfl, ⟨Or.inl rfl, trivial⟩⟩⟩⟩⟩ ?_
      obtain ⟨z0, h, hz⟩ := xit_some' (P := fun r => P r) h hz
      exact s_X4_areNodes_99 hD (P := fun r => P (.inr r)) r0 h hz
    · refine S_aload_n (i := 0) dX4_areNodes_62 rfl rfl ?_
      refine S_bipush (z := 25) dX4_areNodes_63 rfl ?_
      refine S_iload_n (i := 1) dX4_areNodes_65 rfl rfl ?_
      refine S_iadd dX4_areNodes_66 ?_
      refine S_iconst dX4_areNodes_67 rfl ?_
      refine S_iadd dX4_areNodes_68 ?_
      refine S_bipush (z := 21) dX4_areNodes_69 rfl ?_
      refine S_iload dX4_areNodes_71 rfl ?_
      refine S_imul dX4_areNodes_73 ?_
      refine S_iadd dX4_areNodes_74 ?_
      refine S_bipush (z := 20) dX4_areNodes_75 rfl ?_
      refine S_iadd dX4_areNodes_77 ?_
      refine S_iconst dX4_areNodes_78 rfl ?_
      refine P_invVp 0 [(0, (((25 + x1) + 1) + (21 * x4)) + 20), (0, 1)] [] CVX4_get MLX4_33 dX4_areNodes_79 rfl rfl rfl rfl rfl (by omega) h (fun r h => F_X4_get (by omega) h) (fun v1 h => ?_)
      refine S_bipush (z := 32) dX4_areNodes_82 rfl ?_
      refine P_icmp_ge (tgt := 91) dX4_areNodes_84 rfl h (fun h => ?_) (fun h => ?_)
      · refine S_iconst dX4_areNodes_91 rfl ?_
        refine S_weak (ls' := [(1, x0), (0, x1), (0, x2), (9, 0), (0, x4)]) ⟨Or.inr rfl, ⟨Or.inr rfl, ⟨Or.inr rfl, ⟨Or.inl rfl, ⟨Or.inr rfl, trivial⟩⟩⟩⟩⟩ ?_
        exact s_X4_areNodes_92 hD c0 r0 h hz
      · refine S_iconst dX4_areNodes_87 rfl ?_
        refine S_goto (tgt := 92) dX4_areNodes_88 rfl ?_
        refine S_weak (ls' := [(1, x0), (0, x1), (0, x2), (9, 0), (0, x4)]) ⟨Or.inr rfl, ⟨Or.inr rfl, ⟨Or.inr rfl, ⟨Or.inl rfl, ⟨Or.inr rfl, trivial⟩⟩⟩⟩⟩ ?_
        exact s_X4_areNodes_92 hD c0 r0 h hz
theorem sl_X4_areNodes_52 {g : GG} {d : Nat} (hD : 1 ≤ d) {x0 x1 x2 x3 x4 : Int} {M : MM} {o : AV × MM} {P : (Int) → Prop} (r0 : ∀ r : Int, P r → o = ((0, r), M)) {z : Int} (h : l_X4_areNodes_52 x0 x1 x2 x3 x4 M = some z) (hz : P z) : Sem g d YX4_areNodes 52 [(1, x0), (0, x1), (0, x2), (0, x3), (0, x4)] [] M o := by
  refine lp_sound (S := fun s : Int × Int => Sem g d YX4_areNodes 52 [(1, x0), (0, x1), (0, x2), (0, s.1), (0, s.2)] [] M o) (P := P) ?_ FU (x3, x4) z h hz
  intro s x hx hP
  exact s_X4_areNodes_52 hD (P := Sum.elim (fun s : Int × Int => Sem g d YX4_areNodes 52 [(1, x0), (0, x1), (0, x2), (0, s.1), (0, s.2)] [] M o) P) (fun s h => h) (fun s h => r0 s h) hx hP
theorem s_X4_areNodes_48 {g : GG} {d : Nat} (hD : 1 ≤ d) {x0 x1 x2 y0 : Int} {M : MM} {o : AV × MM} {P : (Int) → Prop} (r0 : ∀ r : Int, P r → o = ((0, r), M)) {z : Int} (h : j_X4_areNodes_48 x0 x1 x2 y0 M = some z) (hz : P z) : Sem g d YX4_areNodes 48 [(1, x0), (0, x1), (0, x2), (9, 0), (9, 0)] [(0, y0)] M o := by
  delta j_X4_areNodes_48 at h
  refine S_istore_n (i := 3) dX4_areNodes_48 rfl (Nat.le_of_ble_eq_true rfl) rfl rfl ?_
  change Sem g d YX4_areNodes 49 [(1, x0), (0, x1), (0, x2), (0, y0), (9, 0)] [] M o
  refine S_iconst dX4_areNodes_49 rfl ?_
  refine S_istore dX4_areNodes_50 (Nat.le_of_ble_eq_true rfl) rfl rfl ?_
  change Sem g d YX4_areNodes 52 [(1, x0), (0, x1), (0, x2), (0, y0), (0, 0)] [] M o
  exact sl_X4_areNodes_52 hD r0 h hz
theorem s_X4_areNodes_47 {g : GG} {d : Nat} (hD : 1 ≤ d) {x0 x1 x2 : Int} {M : MM} {o : AV × MM} {P : (Int) → Prop} (r0 : ∀ r : Int, P r → o = ((0, r), M)) {z : Int} (h : j_X4_areNodes_47 x0 x1 x2 M = some z) (hz : P z) : Sem g d YX4_areNodes 47 [(1, x0), (0, x1), (0, x2), (9, 0), (9, 0)] [] M o := by
  delta j_X4_areNodes_47 at h
  refine S_iconst dX4_areNodes_47 rfl ?_
  exact s_X4_areNodes_48 hD r0 h hz
theorem s_X4_areNodes_0 {g : GG} {d : Nat} (hD : 1 ≤ d) {x0 x1 : Int} {M : MM} {o : AV × MM} {P : (Int) → Prop} (r0 : ∀ r : Int, P r → o = ((0, r), M)) {z : Int} (h : f_X4_areNodes x0 x1 M = some z) (hz : P z) : Sem g d YX4_areNodes 0 [(1, x0), (0, x1), (9, 0), (9, 0), (9, 0)] [] M o := by
  delta f_X4_areNodes at h
  refine S_aload_n (i := 0) dX4_areNodes_0 rfl rfl ?_
  refine S_iload_n (i := 1) dX4_areNodes_1 rfl rfl ?_
  refine S_iconst dX4_areNodes_2 rfl ?_
  refine S_iadd dX4_areNodes_3 ?_
  refine P_invVp 0 [(0, x1 + 1)] [] CVX4_isAtLeast MLX4_43 dX4_areNodes_4 rfl rfl rfl rfl rfl (by omega) h (fun r h => F_X4_isAtLeast (by omega) h) (fun v1 h => ?_)
  refine P_if_ne (tgt := 12) dX4_areNodes_7 rfl h (fun h => ?_) (fun h => ?_)
  · refine S_aload_n (i := 0) dX4_areNodes_12 rfl rfl ?_
    refine S_bipush (z := 25) dX4_areNodes_13 rfl ?_
    refine S_iload_n (i := 1) dX4_areNodes_15 rfl rfl ?_
    refine S_iadd dX4_areNodes_16 ?_
    refine S_iconst dX4_areNodes_17 rfl ?_
    refine P_invVp 0 [(0, 25 + x1), (0, 1)] [] CVX4_get MLX4_33 dX4_areNodes_18 rfl rfl rfl rfl rfl (by omega) h (fun r h => F_X4_get (by omega) h) (fun v2 h => ?_)
    refine S_istore_n (i := 2) dX4_areNodes_21 rfl (Nat.le_of_ble_eq_true rfl) rfl rfl ?_
    change Sem g d YX4_areNodes 22 [(1, x0), (0, x1), (0, v2), (9, 0), (9, 0)] [] M o
    refine S_iload_n (i := 2) dX4_areNodes_22 rfl rfl ?_
    refine S_bipush (z := 20) dX4_areNodes_23 rfl ?_
    refine P_icmp_gt (tgt := 47) dX4_areNodes_25 rfl h (fun h => ?_) (fun h => ?_)
    · exact s_X4_areNodes_47 hD r0 h hz
    · refine S_aload_n (i := 0) dX4_areNodes_28 rfl rfl ?_
      refine S_iload_n (i := 1) dX4_areNodes_29 rfl rfl ?_
      refine S_iconst dX4_areNodes_30 rfl ?_
      refine S_iadd dX4_areNodes_31 ?_
      refine S_bipush (z := 21) dX4_areNodes_32 rfl ?_
      refine S_iload_n (i := 2) dX4_areNodes_34 rfl rfl ?_
      refine S_imul dX4_areNodes_35 ?_
      refine S_iadd dX4_areNodes_36 ?_
      refine P_invVp 0 [(0, (x1 + 1) + (21 * v2))] [] CVX4_isLong MLX4_47 dX4_areNodes_37 rfl rfl rfl rfl rfl (by omega) h (fun r h => F_X4_isLong (by omega) h) (fun v3 h => ?_)
      refine P_if_eq (tgt := 47) dX4_areNodes_40 rfl h (fun h => ?_) (fun h => ?_)
      · exact s_X4_areNodes_47 hD r0 h hz
      · refine S_iconst dX4_areNodes_43 rfl ?_
        refine S_goto (tgt := 48) dX4_areNodes_44 rfl ?_
        exact s_X4_areNodes_48 hD r0 h hz
  · refine S_iconst dX4_areNodes_10 rfl ?_
    obtain rfl := r0 _ (some_P (P := fun r => P r) h hz)
    exact P_ret dX4_areNodes_11 rfl (Or.inr ⟨rfl, Or.inl rfl⟩)
theorem F_X4_areNodes {g : GG} {d : Nat} (hD : 1 ≤ d) {x0 x1 : Int} {M : MM} {r : Int} (h : f_X4_areNodes x0 x1 M = some r) : Sem g d YX4_areNodes 0 (ini YX4_areNodes [(1, x0), (0, x1)]) [] M ((0, r), M) := by
  change Sem g d YX4_areNodes 0 [(1, x0), (0, x1), (9, 0), (9, 0), (9, 0)] [] M ((0, r), M)
  exact s_X4_areNodes_0 hD (P := fun x => x = r) (fun q e => by rw [e]) h rfl
/-! PeerSearch$Packet.arePostings(IIII)Z -/
theorem dX4_arePostings_0 : decode cX4_arePostings 0 = .ok (.aload_n 0, 1) := by decide +kernel
theorem dX4_arePostings_1 : decode cX4_arePostings 1 = .ok (.iload_n 1, 1) := by decide +kernel
theorem dX4_arePostings_2 : decode cX4_arePostings 2 = .ok (.iconst 1, 1) := by decide +kernel
theorem dX4_arePostings_3 : decode cX4_arePostings 3 = .ok (.iadd, 1) := by decide +kernel
theorem dX4_arePostings_4 : decode cX4_arePostings 4 = .ok (.invokevirtual 43, 3) := by decide +kernel
theorem dX4_arePostings_7 : decode cX4_arePostings 7 = .ok (.ifCond .ne 5, 3) := by decide +kernel
theorem dX4_arePostings_10 : decode cX4_arePostings 10 = .ok (.iconst 0, 1) := by decide +kernel
theorem dX4_arePostings_11 : decode cX4_arePostings 11 = .ok (.ireturn, 1) := by decide +kernel
theorem dX4_arePostings_12 : decode cX4_arePostings 12 = .ok (.aload_n 0, 1) := by decide +kernel
theorem dX4_arePostings_13 : decode cX4_arePostings 13 = .ok (.bipush 25, 2) := by decide +kernel
theorem dX4_arePostings_15 : decode cX4_arePostings 15 = .ok (.iload_n 1, 1) := by decide +kernel
theorem dX4_arePostings_16 : decode cX4_arePostings 16 = .ok (.iadd, 1) := by decide +kernel
theorem dX4_arePostings_17 : decode cX4_arePostings 17 = .ok (.iconst 1, 1) := by decide +kernel
theorem dX4_arePostings_18 : decode cX4_arePostings 18 = .ok (.invokevirtual 33, 3) := by decide +kernel
theorem dX4_arePostings_21 : decode cX4_arePostings 21 = .ok (.istore 5, 2) := by decide +kernel
theorem dX4_arePostings_23 : decode cX4_arePostings 23 = .ok (.iload 5, 2) := by decide +kernel
theorem dX4_arePostings_25 : decode cX4_arePostings 25 = .ok (.iload_n 2, 1) := by decide +kernel
theorem dX4_arePostings_26 : decode cX4_arePostings 26 = .ok (.if_icmp .lt 29, 3) := by decide +kernel
theorem dX4_arePostings_29 : decode cX4_arePostings 29 = .ok (.iload 5, 2) := by decide +kernel
theorem dX4_arePostings_31 : decode cX4_arePostings 31 = .ok (.iload_n 3, 1) := by decide +kernel
theorem dX4_arePostings_32 : decode cX4_arePostings 32 = .ok (.if_icmp .gt 23, 3) := by decide +kernel
theorem dX4_arePostings_35 : decode cX4_arePostings 35 = .ok (.aload_n 0, 1) := by decide +kernel
theorem dX4_arePostings_36 : decode cX4_arePostings 36 = .ok (.iload_n 1, 1) := by decide +kernel
theorem dX4_arePostings_37 : decode cX4_arePostings 37 = .ok (.iconst 1, 1) := by decide +kernel
theorem dX4_arePostings_38 : decode cX4_arePostings 38 = .ok (.iadd, 1) := by decide +kernel
theorem dX4_arePostings_39 : decode cX4_arePostings 39 = .ok (.iload 4, 2) := by decide +kernel
theorem dX4_arePostings_41 : decode cX4_arePostings 41 = .ok (.iload 5, 2) := by decide +kernel
theorem dX4_arePostings_43 : decode cX4_arePostings 43 = .ok (.imul, 1) := by decide +kernel
theorem dX4_arePostings_44 : decode cX4_arePostings 44 = .ok (.iadd, 1) := by decide +kernel
theorem dX4_arePostings_45 : decode cX4_arePostings 45 = .ok (.invokevirtual 47, 3) := by decide +kernel
theorem dX4_arePostings_48 : decode cX4_arePostings 48 = .ok (.ifCond .eq 7, 3) := by decide +kernel
theorem dX4_arePostings_51 : decode cX4_arePostings 51 = .ok (.iconst 1, 1) := by decide +kernel
theorem dX4_arePostings_52 : decode cX4_arePostings 52 = .ok (.goto 4, 3) := by decide +kernel
theorem dX4_arePostings_55 : decode cX4_arePostings 55 = .ok (.iconst 0, 1) := by decide +kernel
theorem dX4_arePostings_56 : decode cX4_arePostings 56 = .ok (.istore 6, 2) := by decide +kernel
theorem dX4_arePostings_58 : decode cX4_arePostings 58 = .ok (.iconst 0, 1) := by decide +kernel
theorem dX4_arePostings_59 : decode cX4_arePostings 59 = .ok (.istore 7, 2) := by decide +kernel
theorem dX4_arePostings_61 : decode cX4_arePostings 61 = .ok (.iload 7, 2) := by decide +kernel
theorem dX4_arePostings_63 : decode cX4_arePostings 63 = .ok (.iload 5, 2) := by decide +kernel
theorem dX4_arePostings_65 : decode cX4_arePostings 65 = .ok (.if_icmp .ge 94, 3) := by decide +kernel
theorem dX4_arePostings_68 : decode cX4_arePostings 68 = .ok (.iload 6, 2) := by decide +kernel
theorem dX4_arePostings_70 : decode cX4_arePostings 70 = .ok (.ifCond .eq 89, 3) := by decide +kernel
theorem dX4_arePostings_73 : decode cX4_arePostings 73 = .ok (.bipush 25, 2) := by decide +kernel
theorem dX4_arePostings_75 : decode cX4_arePostings 75 = .ok (.iload_n 1, 1) := by decide +kernel
theorem dX4_arePostings_76 : decode cX4_arePostings 76 = .ok (.iadd, 1) := by decide +kernel
theorem dX4_arePostings_77 : decode cX4_arePostings 77 = .ok (.iconst 1, 1) := by decide +kernel
theorem dX4_arePostings_78 : decode cX4_arePostings 78 = .ok (.iadd, 1) := by decide +kernel
theorem dX4_arePostings_79 : decode cX4_arePostings 79 = .ok (.iload 4, 2) := by decide +kernel
theorem dX4_arePostings_81 : decode cX4_arePostings 81 = .ok (.iload 7, 2) := by decide +kernel
theorem dX4_arePostings_83 : decode cX4_arePostings 83 = .ok (.imul, 1) := by decide +kernel
theorem dX4_arePostings_84 : decode cX4_arePostings 84 = .ok (.iadd, 1) := by decide +kernel
theorem dX4_arePostings_85 : decode cX4_arePostings 85 = .ok (.istore 8, 2) := by decide +kernel
theorem dX4_arePostings_87 : decode cX4_arePostings 87 = .ok (.aload_n 0, 1) := by decide +kernel
theorem dX4_arePostings_88 : decode cX4_arePostings 88 = .ok (.iload 8, 2) := by decide +kernel
theorem dX4_arePostings_90 : decode cX4_arePostings 90 = .ok (.iconst 1, 1) := by decide +kernel
theorem dX4_arePostings_91 : decode cX4_arePostings 91 = .ok (.invokevirtual 33, 3) := by decide +kernel
theorem dX4_arePostings_94 : decode cX4_arePostings 94 = .ok (.bipush 32, 2) := by decide +kernel
theorem dX4_arePostings_96 : decode cX4_arePostings 96 = .ok (.if_icmp .ge 54, 3) := by decide +kernel
theorem dX4_arePostings_99 : decode cX4_arePostings 99 = .ok (.aload_n 0, 1) := by decide +kernel
theorem dX4_arePostings_100 : decode cX4_arePostings 100 = .ok (.iload 8, 2) := by decide +kernel
theorem dX4_arePostings_102 : decode cX4_arePostings 102 = .ok (.iconst 1, 1) := by decide +kernel
theorem dX4_arePostings_103 : decode cX4_arePostings 103 = .ok (.iadd, 1) := by decide +kernel
theorem dX4_arePostings_104 : decode cX4_arePostings 104 = .ok (.iconst 1, 1) := by decide +kernel
theorem dX4_arePostings_105 : decode cX4_arePostings 105 = .ok (.invokevirtual 33, 3) := by decide +kernel
theorem dX4_arePostings_108 : decode cX4_arePostings 108 = .ok (.bipush 16, 2) := by decide +kernel
theorem dX4_arePostings_110 : decode cX4_arePostings 110 = .ok (.if_icmp .ge 40, 3) := by decide +kernel
theorem dX4_arePostings_113 : decode cX4_arePostings 113 = .ok (.iload 4, 2) := by decide +kernel
theorem dX4_arePostings_115 : decode cX4_arePostings 115 = .ok (.iconst 2, 1) := by decide +kernel
theorem dX4_arePostings_116 : decode cX4_arePostings 116 = .ok (.if_icmp .eq 30, 3) := by decide +kernel
theorem dX4_arePostings_119 : decode cX4_arePostings 119 = .ok (.aload_n 0, 1) := by decide +kernel
theorem dX4_arePostings_120 : decode cX4_arePostings 120 = .ok (.iload 8, 2) := by decide +kernel
theorem dX4_arePostings_122 : decode cX4_arePostings 122 = .ok (.iconst 2, 1) := by decide +kernel
theorem dX4_arePostings_123 : decode cX4_arePostings 123 = .ok (.iadd, 1) := by decide +kernel
theorem dX4_arePostings_124 : decode cX4_arePostings 124 = .ok (.iconst 1, 1) := by decide +kernel
theorem dX4_arePostings_125 : decode cX4_arePostings 125 = .ok (.invokevirtual 33, 3) := by decide +kernel
theorem dX4_arePostings_128 : decode cX4_arePostings 128 = .ok (.iconst 1, 1) := by decide +kernel
theorem dX4_arePostings_129 : decode cX4_arePostings 129 = .ok (.if_icmp .lt 21, 3) := by decide +kernel
theorem dX4_arePostings_132 : decode cX4_arePostings 132 = .ok (.aload_n 0, 1) := by decide +kernel
theorem dX4_arePostings_133 : decode cX4_arePostings 133 = .ok (.iload 8, 2) := by decide +kernel
theorem dX4_arePostings_135 : decode cX4_arePostings 135 = .ok (.iconst 2, 1) := by decide +kernel
theorem dX4_arePostings_136 : decode cX4_arePostings 136 = .ok (.iadd, 1) := by decide +kernel
theorem dX4_arePostings_137 : decode cX4_arePostings 137 = .ok (.iconst 1, 1) := by decide +kernel
theorem dX4_arePostings_138 : decode cX4_arePostings 138 = .ok (.invokevirtual 33, 3) := by decide +kernel
theorem dX4_arePostings_141 : decode cX4_arePostings 141 = .ok (.bipush 15, 2) := by decide +kernel
theorem dX4_arePostings_143 : decode cX4_arePostings 143 = .ok (.if_icmp .gt 7, 3) := by decide +kernel
theorem dX4_arePostings_146 : decode cX4_arePostings 146 = .ok (.iconst 1, 1) := by decide +kernel
theorem dX4_arePostings_147 : decode cX4_arePostings 147 = .ok (.goto 4, 3) := by decide +kernel
theorem dX4_arePostings_150 : decode cX4_arePostings 150 = .ok (.iconst 0, 1) := by decide +kernel
theorem dX4_arePostings_151 : decode cX4_arePostings 151 = .ok (.istore 6, 2) := by decide +kernel
theorem dX4_arePostings_153 : decode cX4_arePostings 153 = .ok (.iinc 7 1, 3) := by decide +kernel
theorem dX4_arePostings_156 : decode cX4_arePostings 156 = .ok (.goto (-95), 3) := by decide +kernel
theorem dX4_arePostings_159 : decode cX4_arePostings 159 = .ok (.iload 6, 2) := by decide +kernel
theorem dX4_arePostings_161 : decode cX4_arePostings 161 = .ok (.ireturn, 1) := by decide +kernel
def j_X4_arePostings_159 (x6 : Int) (M : MM) : Option (Int) :=
  bz x6 (some x6)
def j_X4_arePostings_151 (x0 x1 x4 x5 x7 y0 : Int) (M : MM) : Option ((Int × Int) ⊕ (Int)) :=
  cnt (y0, x7 + 1)
def j_X4_arePostings_150 (x0 x1 x4 x5 x7 : Int) (M : MM) : Option ((Int × Int) ⊕ (Int)) :=
  j_X4_arePostings_151 x0 x1 x4 x5 x7 0 M
def j_X4_arePostings_146 (x0 x1 x4 x5 x7 : Int) (M : MM) : Option ((Int × Int) ⊕ (Int)) :=
  j_X4_arePostings_151 x0 x1 x4 x5 x7 1 M
def b_X4_arePostings_61 (x0 x1 x4 x5 x6 x7 : Int) (M : MM) : Option ((Int × Int) ⊕ (Int)) :=
  if w32 x7 < w32 x5 then
    if w32 x6 = 0 then
      xit (j_X4_arePostings_159 x6 M)
    else
      ck 4 x0 M <| (f_X4_get x0 (((25 + x1) + 1) + (x4 * x7)) 1 M).bind fun v1 =>
      if w32 v1 < w32 32 then
        ck 4 x0 M <| (f_X4_get x0 ((((25 + x1) + 1) + (x4 * x7)) + 1) 1 M).bind fun v2 =>
        if w32 v2 < w32 16 then
          if w32 x4 = w32 2 then
            j_X4_arePostings_146 x0 x1 x4 x5 x7 M
          else
            ck 4 x0 M <| (f_X4_get x0 ((((25 + x1) + 1) + (x4 * x7)) + 2) 1 M).bind fun v3 =>
            if w32 v3 < w32 1 then
              j_X4_arePostings_150 x0 x1 x4 x5 x7 M
            else
              ck 4 x0 M <| (f_X4_get x0 ((((25 + x1) + 1) + (x4 * x7)) + 2) 1 M).bind fun v4 =>
              if w32 15 < w32 v4 then
                j_X4_arePostings_150 x0 x1 x4 x5 x7 M
              else
                j_X4_arePostings_146 x0 x1 x4 x5 x7 M
        else
          j_X4_arePostings_150 x0 x1 x4 x5 x7 M
      else
        j_X4_arePostings_150 x0 x1 x4 x5 x7 M
  else
    xit (j_X4_arePostings_159 x6 M)
def l_X4_arePostings_61 (x0 x1 x4 x5 x6 x7 : Int) (M : MM) : Option (Int) := lpN (fun s : Int × Int => b_X4_arePostings_61 x0 x1 x4 x5 s.1 s.2 M) FU (x6, x7)
def j_X4_arePostings_56 (x0 x1 x4 x5 y0 : Int) (M : MM) : Option (Int) :=
  l_X4_arePostings_61 x0 x1 x4 x5 y0 0 M
def j_X4_arePostings_55 (x0 x1 x4 x5 : Int) (M : MM) : Option (Int) :=
  j_X4_arePostings_56 x0 x1 x4 x5 0 M
def f_X4_arePostings (x0 x1 x2 x3 x4 : Int) (M : MM) : Option (Int) :=
  ck 4 x0 M <| (f_X4_isAtLeast x0 (x1 + 1) M).bind fun v1 =>
  if w32 v1 = 0 then
    some 0
  else
    ck 4 x0 M <| (f_X4_get x0 (25 + x1) 1 M).bind fun v2 =>
    if w32 v2 < w32 x2 then
      j_X4_arePostings_55 x0 x1 x4 v2 M
    else
      if w32 x3 < w32 v2 then
        j_X4_arePostings_55 x0 x1 x4 v2 M
      else
        ck 4 x0 M <| (f_X4_isLong x0 ((x1 + 1) + (x4 * v2)) M).bind fun v3 =>
        if w32 v3 = 0 then
          j_X4_arePostings_55 x0 x1 x4 v2 M
        else
          j_X4_arePostings_56 x0 x1 x4 v2 1 M
theorem s_X4_arePostings_159 {g : GG} {d : Nat} (hD : 1 ≤ d) {x6 : Int} {M : MM} {o : AV × MM} {P : (Int) → Prop} (r0 : ∀ r : Int, P r → o = ((0, r), M)) {z : Int} (h : j_X4_arePostings_159 x6 M = some z) (hz : P z) : Sem g d YX4_arePostings 159 [(9, 0), (9, 0), (9, 0), (9, 0), (9, 0), (9, 0), (0, x6), (9, 0), (9, 0)] [] M o := by
  delta j_X4_arePostings_159 at h
  refine S_iload dX4_arePostings_159 rfl ?_
  obtain ⟨hb, h⟩ := bz_some h
  obtain rfl := r0 _ (some_P (P := fun r => P r) h hz)
  exact P_ret dX4_arePostings_161 rfl (Or.inr ⟨rfl, hb⟩)
theorem s_X4_arePostings_151 {g : GG} {d : Nat} (hD : 1 ≤ d) {x0 x1 x4 x5 x7 y0 : Int} {M : MM} {o : AV × MM} {P : ((Int × Int) ⊕ (Int)) → Prop} (c0 : ∀ s : Int × Int, P (.inl s) → Sem g d YX4_arePostings 61 [(1, x0), (0, x1), (9, 0), (9, 0), (0, x4), (0, x5), (0, s.1), (0, s.2), (9, 0)] [] M o) (r0 : ∀ r : Int, P (.inr r) → o = ((0, r), M)) {z : (Int × Int) ⊕ (Int)} (h : j_X4_arePostings_151 x0 x1 x4 x5 x7 y0 M = some z) (hz : P z) : Sem g d YX4_arePostings 151 [(1, x0), (0, x1), (9, 0), (9, 0), (0, x4), (0, x5), (9, 0), (0, x7), (9, 0)] [(0, y0)] M o := by
  delta j_X4_arePostings_151 at h
  refine S_istore dX4_arePostings_151 (Nat.le_of_ble_eq_true rfl) rfl rfl ?_
  change Sem g d YX4_arePostings 153 [(1, x0), (0, x1), (9, 0), (9, 0), (0, x4), (0, x5), (0, y0), (0, x7), (9, 0)] [] M o
  refine S_iinc dX4_arePostings_153 rfl rfl rfl ?_
  change Sem g d YX4_arePostings 156 [(1, x0), (0, x1), (9, 0), (9, 0), (0, x4), (0, x5), (0, y0), (0, x7 + 1), (9, 0)] [] M o
  refine S_goto (tgt := 61) dX4_arePostings_156 rfl ?_
  exact c0 (y0, x7 + 1) (some_P (P := fun r => P r) h hz)
theorem s_X4_arePostings_150 {g : GG} {d : Nat} (hD : 1 ≤ d) {x0 x1 x4 x5 x7 : Int} {M : MM} {o : AV × MM} {P : ((Int × Int) ⊕ (Int)) → Prop} (c0 : ∀ s : Int × Int, P (.inl s) → Sem g d YX4_arePostings 61 [(1, x0), (0, x1), (9, 0), (9, 0), (0, x4), (0, x5), (0, s.1), (0, s.2), (9, 0)] [] M o) (r0 : ∀ r : Int, P (.inr r) → o = ((0, r), M)) {z : (Int × Int) ⊕ (Int)} (h : j_X4_arePostings_150 x0 x1 x4 x5 x7 M = some z) (hz : P z) : Sem g d YX4_arePostings 150 [(1, x0), (0, x1), (9, 0), (9, 0), (0, x4), (0, x5), (9, 0), (0, x7), (9, 0)] [] M o := by
  delta j_X4_arePostings_150 at h
  refine S_iconst dX4_arePostings_150 rfl ?_
  exact s_X4_arePostings_151 hD c0 r0 h hz
theorem s_X4_arePostings_146 {g : GG} {d : Nat} (hD : 1 ≤ d) {x0 x1 x4 x5 x7 : Int} {M : MM} {o : AV × MM} {P : ((Int × Int) ⊕ (Int)) → Prop} (c0 : ∀ s : Int × Int, P (.inl s) → Sem g d YX4_arePostings 61 [(1, x0), (0, x1), (9, 0), (9, 0), (0, x4), (0, x5), (0, s.1), (0, s.2), (9, 0)] [] M o) (r0 : ∀ r : Int, P (.inr r) → o = ((0, r), M)) {z : (Int × Int) ⊕ (Int)} (h : j_X4_arePostings_146 x0 x1 x4 x5 x7 M = some z) (hz : P z) : Sem g d YX4_arePostings 146 [(1, x0), (0, x1), (9, 0), (9, 0), (0, x4), (0, x5), (9, 0), (0, x7), (9, 0)] [] M o := by
  delta j_X4_arePostings_146 at h
  refine S_iconst dX4_arePostings_146 rfl ?_
  refine S_goto (tgt := 151) dX4_arePostings_147 rfl ?_
  exact s_X4_arePostings_151 hD c0 r0 h hz
theorem s_X4_arePostings_61 {g : GG} {d : Nat} (hD : 1 ≤ d) {x0 x1 x4 x5 x6 x7 : Int} {M : MM} {o : AV × MM} {P : ((Int × Int) ⊕ (Int)) → Prop} (c0 : ∀ s : Int × Int, P (.inl s) → Sem g d YX4_arePostings 61 [(1, x0), (0, x1), (9, 0), (9, 0), (0, x4), (0, x5), (0, s.1), (0, s.2), (9, 0)] [] M o) (r0 : ∀ r : Int, P (.inr r) → o = ((0, r), M)) {z : (Int × Int) ⊕ (Int)} (h : b_X4_arePostings_61 x0 x1 x4 x5 x6 x7 M = some z) (hz : P z) : Sem g d YX4_arePostings 61 [(1, x0), (0, x1), (9, 0), (9, 0), (0, x4), (0, x5), (0, x6), (0, x7), (9, 0)] [] M o := by
  delta b_X4_arePostings_61 at h
  refine S_iload dX4_arePostings_61 rfl ?_
  refine S_iload dX4_arePostings_63 rfl ?_
  refine P_icmp_ge (tgt := 159) dX4_arePostings_65 rfl h (fun h => ?_) (fun h => ?_)
  · refine S_weak (ls' := [(9, 0), (9, 0), (9, 0), (9, 0), (9, 0), (9, 0), (0, x6), (9, 0), (9, 0)]) ⟨Or.inl rfl, ⟨Or.inl rfl, ⟨Or.inl rfl, ⟨Or.inl rfl, ⟨Or.inl rfl, ⟨Or.inl rfl, ⟨Or.inr rfl, ⟨Or.inl rfl, ⟨Or.inl rfl, trivial⟩⟩⟩⟩⟩⟩⟩⟩⟩ ?_
    obtain ⟨z0, h, hz⟩ := xit_some' (P := fun r => P r) h hz
    exact s_X4_arePostings_159 hD (P := fun r => P (.inr r)) r0 h hz
  · refine S_iload dX4_arePostings_68 rfl ?_
    refine P_if_eq (tgt := 159) dX4_arePostings_70 rfl h (fun h => ?_) (fun h => ?_)
    · refine S_weak (ls' := [(9, 0), (9, 0), (9, 0), (9, 0), (9, 0), (9, 0), (0, x6), (9, 0), (9, 0)]) ⟨Or.inl rfl, ⟨Or.inl rfl, ⟨Or.inl rfl, ⟨Or.inl rfl, ⟨Or.inl rfl, ⟨Or.inl rfl, ⟨Or.inr rfl, ⟨Or.inl rfl, ⟨Or.inl rfl, trivial⟩⟩⟩⟩⟩⟩⟩⟩⟩ ?_
      obtain ⟨z0, h, hz⟩ := xit_some' (P := fun r => P r) h hz
      exact s_X4_arePostings_159 hD (P := fun r => P (.inr r)) r0 h hz
    · refine S_bipush (z := 25) dX4_arePostings_73 rfl ?_
      refine S_iload_n (i := 1) dX4_arePostings_75 rfl rfl ?_
      refine S_iadd dX4_arePostings_76 ?_
      refine S_iconst dX4_arePostings_77 rfl ?_
      refine S_iadd dX4_arePostings_78 ?_
      refine S_iload dX4_arePostings_79 rfl ?_
      refine S_iload dX4_arePostings_81 rfl ?_
      refine S_imul dX4_arePostings_83 ?_
      refine S_iadd dX4_arePostings_84 ?_
      refine S_istore dX4_arePostings_85 (Nat.le_of_ble_eq_true rfl) rfl rfl ?_
      change Sem g d YX4_arePostings 87 [(1, x0), (0, x1), (9, 0), (9, 0), (0, x4), (0, x5), (0, x6), (0, x7), (0, ((25 + x1) + 1) + (x4 * x7))] [] M o
      refine S_aload_n (i := 0) dX4_arePostings_87 rfl rfl ?_
      refine S_iload dX4_arePostings_88 rfl ?_
      refine S_iconst dX4_arePostings_90 rfl ?_
      refine P_invVp 0 [(0, ((25 + x1) + 1) + (x4 * x7)), (0, 1)] [] CVX4_get MLX4_33 dX4_arePostings_91 rfl rfl rfl rfl rfl (by omega) h (fun r h => F_X4_get (by omega) h) (fun v1 h => ?_)
      refine S_bipush (z := 32) dX4_arePostings_94 rfl ?_
      refine P_icmp_ge (tgt := 150) dX4_arePostings_96 rfl h (fun h => ?_) (fun h => ?_)
      · refine S_weak (ls' := [(1, x0), (0, x1), (9, 0), (9, 0), (0, x4), (0, x5), (9, 0), (0, x7), (9, 0)]) ⟨Or.inr rfl, ⟨Or.inr rfl, ⟨Or.inl rfl, ⟨Or.inl rfl, ⟨Or.inr rfl, ⟨Or.inr rfl, ⟨Or.inl rfl, ⟨Or.inr rfl, ⟨Or.inl rfl, trivial⟩⟩⟩⟩⟩⟩⟩⟩⟩ ?_
        exact s_X4_arePostings_150 hD c0 r0 h hz
      · refine S_aload_n (i := 0) dX4_arePostings_99 rfl rfl ?_
        refine S_iload dX4_arePostings_100 rfl ?_
        refine S_iconst dX4_arePostings_102 rfl ?_
        refine S_iadd dX4_arePostings_103 ?_
        refine S_iconst dX4_arePostings_104 rfl ?_
        refine P_invVp 0 [(0, (((25 + x1) + 1) + (x4 * x7)) + 1), (0, 1)] [] CVX4_get MLX4_33 dX4_arePostings_105 rfl rfl rfl rfl rfl (by omega) h (fun r h => F_X4_get (by omega) h) (fun v2 h => ?_)
        refine S_bipush (z := 16) dX4_arePostings_108 rfl ?_
        refine P_icmp_ge (tgt := 150) dX4_arePostings_110 rfl h (fun h => ?_) (fun h => ?_)
        · refine S_weak (ls' := [(1, x0), (0, x1), (9, 0), (9, 0), (0, x4), (0, x5), (9, 0), (0, x7), (9, 0)]) ⟨Or.inr rfl, ⟨Or.inr rfl, ⟨Or.inl rfl, ⟨Or.inl rfl, ⟨Or.inr rfl, ⟨Or.inr rfl, ⟨Or.inl rfl, ⟨Or.inr rfl, ⟨Or.inl rfl, trivial⟩⟩⟩⟩⟩⟩⟩⟩⟩ ?_
          exact s_X4_arePostings_150 hD c0 r0 h hz
        · refine S_iload dX4_arePostings_113 rfl ?_
          refine S_iconst dX4_arePostings_115 rfl ?_
          refine P_icmp_eq (tgt := 146) dX4_arePostings_116 rfl h (fun h => ?_) (fun h => ?_)
          · refine S_weak (ls' := [(1, x0), (0, x1), (9, 0), (9, 0), (0, x4), (0, x5), (9, 0), (0, x7), (9, 0)]) ⟨Or.inr rfl, ⟨Or.inr rfl, ⟨Or.inl rfl, ⟨Or.inl rfl, ⟨Or.inr rfl, ⟨Or.inr rfl, ⟨Or.inl rfl, ⟨Or.inr rfl, ⟨Or.inl rfl, trivial⟩⟩⟩⟩⟩⟩⟩⟩⟩ ?_
            exact s_X4_arePostings_146 hD c0 r0 h hz
          · refine S_aload_n (i := 0) dX4_arePostings_119 rfl rfl ?_
            refine S_iload dX4_arePostings_120 rfl ?_
            refine S_iconst dX4_arePostings_122 rfl ?_
            refine S_iadd dX4_arePostings_123 ?_
            refine S_iconst dX4_arePostings_124 rfl ?_
            refine P_invVp 0 [(0, (((25 + x1) + 1) + (x4 * x7)) + 2), (0, 1)] [] CVX4_get MLX4_33 dX4_arePostings_125 rfl rfl rfl rfl rfl (by omega) h (fun r h => F_X4_get (by omega) h) (fun v3 h => ?_)
            refine S_iconst dX4_arePostings_128 rfl ?_
            refine P_icmp_lt (tgt := 150) dX4_arePostings_129 rfl h (fun h => ?_) (fun h => ?_)
            · refine S_weak (ls' := [(1, x0), (0, x1), (9, 0), (9, 0), (0, x4), (0, x5), (9, 0), (0, x7), (9, 0)]) ⟨Or.inr rfl, ⟨Or.inr rfl, ⟨Or.inl rfl, ⟨Or.inl rfl, ⟨Or.inr rfl, ⟨Or.inr rfl, ⟨Or.inl rfl, ⟨Or.inr rfl, ⟨Or.inl rfl, trivial⟩⟩⟩⟩⟩⟩⟩⟩⟩ ?_
              exact s_X4_arePostings_150 hD c0 r0 h hz
            · refine S_aload_n (i := 0) dX4_arePostings_132 rfl rfl ?_
              refine S_iload dX4_arePostings_133 rfl ?_
              refine S_iconst dX4_arePostings_135 rfl ?_
              refine S_iadd dX4_arePostings_136 ?_
              refine S_iconst dX4_arePostings_137 rfl ?_
              refine P_invVp 0 [(0, (((25 + x1) + 1) + (x4 * x7)) + 2), (0, 1)] [] CVX4_get MLX4_33 dX4_arePostings_138 rfl rfl rfl rfl rfl (by omega) h (fun r h => F_X4_get (by omega) h) (fun v4 h => ?_)
              refine S_bipush (z := 15) dX4_arePostings_141 rfl ?_
              refine P_icmp_gt (tgt := 150) dX4_arePostings_143 rfl h (fun h => ?_) (fun h => ?_)
              · refine S_weak (ls' := [(1, x0), (0, x1), (9, 0), (9, 0), (0, x4), (0, x5), (9, 0), (0, x7), (9, 0)]) ⟨Or.inr rfl, ⟨Or.inr rfl, ⟨Or.inl rfl, ⟨Or.inl rfl, ⟨Or.inr rfl, ⟨Or.inr rfl, ⟨Or.inl rfl, ⟨Or.inr rfl, ⟨Or.inl rfl, trivial⟩⟩⟩⟩⟩⟩⟩⟩⟩ ?_
                exact s_X4_arePostings_150 hD c0 r0 h hz
              · refine S_weak (ls' := [(1, x0), (0, x1), (9, 0), (9, 0), (0, x4), (0, x5), (9, 0), (0, x7), (9, 0)]) ⟨Or.inr rfl, ⟨Or.inr rfl, ⟨Or.inl rfl, ⟨Or.inl rfl, ⟨Or.inr rfl, ⟨Or.inr rfl, ⟨Or.inl rfl, ⟨Or.inr rfl, ⟨Or.inl rfl, trivial⟩⟩⟩⟩⟩⟩⟩⟩⟩ ?_
                exact s_X4_arePostings_146 hD c0 r0 h hz
theorem sl_X4_arePostings_61 {g : GG} {d : Nat} (hD : 1 ≤ d) {x0 x1 x4 x5 x6 x7 : Int} {M : MM} {o : AV × MM} {P : (Int) → Prop} (r0 : ∀ r : Int, P r → o = ((0, r), M)) {z : Int} (h : l_X4_arePostings_61 x0 x1 x4 x5 x6 x7 M = some z) (hz : P z) : Sem g d YX4_arePostings 61 [(1, x0), (0, x1), (9, 0), (9, 0), (0, x4), (0, x5), (0, x6), (0, x7), (9, 0)] [] M o := by
  refine lp_sound (S := fun s : Int × Int => Sem g d YX4_arePostings 61 [(1, x0), (0, x1), (9, 0), (9, 0), (0, x4), (0, x5), (0, s.1), (0, s.2), (9, 0)] [] M o) (P := P) ?_ FU (x6, x7) z h hz
  intro s x hx hP
  exact s_X4_arePostings_61 hD (P := Sum.elim (fun s : Int × Int => Sem g d YX4_arePostings 61 [(1, x0), (0, x1), (9, 0), (9, 0), (0, x4), (0, x5), (0, s.1), (0, s.2), (9, 0)] [] M o) P) (fun s h => h) (fun s h => r0 s h) hx hP
theorem s_X4_arePostings_56 {g : GG} {d : Nat} (hD : 1 ≤ d) {x0 x1 x4 x5 y0 : Int} {M : MM} {o : AV × MM} {P : (Int) → Prop} (r0 : ∀ r : Int, P r → o = ((0, r), M)) {z : Int} (h : j_X4_arePostings_56 x0 x1 x4 x5 y0 M = some z) (hz : P z) : Sem g d YX4_arePostings 56 [(1, x0), (0, x1), (9, 0), (9, 0), (0, x4), (0, x5), (9, 0), (9, 0), (9, 0)] [(0, y0)] M o := by
  delta j_X4_arePostings_56 at h
  refine S_istore dX4_arePostings_56 (Nat.le_of_ble_eq_true rfl) rfl rfl ?_
  change Sem g d YX4_arePostings 58 [(1, x0), (0, x1), (9, 0), (9, 0), (0, x4), (0, x5), (0, y0), (9, 0), (9, 0)] [] M o
  refine S_iconst dX4_arePostings_58 rfl ?_
  refine S_istore dX4_arePostings_59 (Nat.le_of_ble_eq_true rfl) rfl rfl ?_
  change Sem g d YX4_arePostings 61 [(1, x0), (0, x1), (9, 0), (9, 0), (0, x4), (0, x5), (0, y0), (0, 0), (9, 0)] [] M o
  exact sl_X4_arePostings_61 hD r0 h hz
theorem s_X4_arePostings_55 {g : GG} {d : Nat} (hD : 1 ≤ d) {x0 x1 x4 x5 : Int} {M : MM} {o : AV × MM} {P : (Int) → Prop} (r0 : ∀ r : Int, P r → o = ((0, r), M)) {z : Int} (h : j_X4_arePostings_55 x0 x1 x4 x5 M = some z) (hz : P z) : Sem g d YX4_arePostings 55 [(1, x0), (0, x1), (9, 0), (9, 0), (0, x4), (0, x5), (9, 0), (9, 0), (9, 0)] [] M o := by
  delta j_X4_arePostings_55 at h
  refine S_iconst dX4_arePostings_55 rfl ?_
  exact s_X4_arePostings_56 hD r0 h hz
theorem s_X4_arePostings_0 {g : GG} {d : Nat} (hD : 1 ≤ d) {x0 x1 x2 x3 x4 : Int} {M : MM} {o : AV × MM} {P : (Int) → Prop} (r0 : ∀ r : Int, P r → o = ((0, r), M)) {z : Int} (h : f_X4_arePostings x0 x1 x2 x3 x4 M = some z) (hz : P z) : Sem g d YX4_arePostings 0 [(1, x0), (0, x1), (0, x2), (0, x3), (0, x4), (9, 0), (9, 0), (9, 0), (9, 0)] [] M o := by
  delta f_X4_arePostings at h
  refine S_aload_n (i := 0) dX4_arePostings_0 rfl rfl ?_
  refine S_iload_n (i := 1) dX4_arePostings_1 rfl rfl ?_
  refine S_iconst dX4_arePostings_2 rfl ?_
  refine S_iadd dX4_arePostings_3 ?_
  refine P_invVp 0 [(0, x1 + 1)] [] CVX4_isAtLeast MLX4_43 dX4_arePostings_4 rfl rfl rfl rfl rfl (by omega) h (fun r h => F_X4_isAtLeast (by omega) h) (fun v1 h => ?_)
  refine P_if_ne (tgt := 12) dX4_arePostings_7 rfl h (fun h => ?_) (fun h => ?_)
  · refine S_aload_n (i := 0) dX4_arePostings_12 rfl rfl ?_
    refine S_bipush (z := 25) dX4_arePostings_13 rfl ?_
    refine S_iload_n (i := 1) dX4_arePostings_15 rfl rfl ?_
    refine S_iadd dX4_arePostings_16 ?_
    refine S_iconst dX4_arePostings_17 rfl ?_
    refine P_invVp 0 [(0, 25 + x1), (0, 1)] [] CVX4_get MLX4_33 dX4_arePostings_18 rfl rfl rfl rfl rfl (by omega) h (fun r h => F_X4_get (by omega) h) (fun v2 h => ?_)
    refine S_istore dX4_arePostings_21 (Nat.le_of_ble_eq_true rfl) rfl rfl ?_
    change Sem g d YX4_arePostings 23 [(1, x0), (0, x1), (0, x2), (0, x3), (0, x4), (0, v2), (9, 0), (9, 0), (9, 0)] [] M o
    refine S_iload dX4_arePostings_23 rfl ?_
    refine S_iload_n (i := 2) dX4_arePostings_25 rfl rfl ?_
    refine P_icmp_lt (tgt := 55) dX4_arePostings_26 rfl h (fun h => ?_) (fun h => ?_)
    · refine S_weak (ls' := [(1, x0), (0, x1), (9, 0), (9, 0), (0, x4), (0, v2), (9, 0), (9, 0), (9, 0)]) ⟨Or.inr rfl, ⟨Or.inr rfl, ⟨Or.inl rfl, ⟨Or.inl rfl, ⟨Or.inr rfl, ⟨Or.inr rfl, ⟨Or.inl rfl, ⟨Or.inl rfl, ⟨Or.inl rfl, trivial⟩⟩⟩⟩⟩⟩⟩⟩⟩ ?_
      exact s_X4_arePostings_55 hD r0 h hz
    · refine S_iload dX4_arePostings_29 rfl ?_
      refine S_iload_n (i := 3) dX4_arePostings_31 rfl rfl ?_
      refine P_icmp_gt (tgt := 55) dX4_arePostings_32 rfl h (fun h => ?_) (fun h => ?_)
      · refine S_weak (ls' := [(1, x0), (0, x1), (9, 0), (9, 0), (0, x4), (0, v2), (9, 0), (9, 0), (9, 0)]) ⟨Or.inr rfl, ⟨Or.inr rfl, ⟨Or.inl rfl, ⟨Or.inl rfl, ⟨Or.inr rfl, ⟨Or.inr rfl, ⟨Or.inl rfl, ⟨Or.inl rfl, ⟨Or.inl rfl, trivial⟩⟩⟩⟩⟩⟩⟩⟩⟩ ?_
        exact s_X4_arePostings_55 hD r0 h hz
      · refine S_aload_n (i := 0) dX4_arePostings_35 rfl rfl ?_
        refine S_iload_n (i := 1) dX4_arePostings_36 rfl rfl ?_
        refine S_iconst dX4_arePostings_37 rfl ?_
        refine S_iadd dX4_arePostings_38 ?_
        refine S_iload dX4_arePostings_39 rfl ?_
        refine S_iload dX4_arePostings_41 rfl ?_
        refine S_imul dX4_arePostings_43 ?_
        refine S_iadd dX4_arePostings_44 ?_
        refine P_invVp 0 [(0, (x1 + 1) + (x4 * v2))] [] CVX4_isLong MLX4_47 dX4_arePostings_45 rfl rfl rfl rfl rfl (by omega) h (fun r h => F_X4_isLong (by omega) h) (fun v3 h => ?_)
        refine P_if_eq (tgt := 55) dX4_arePostings_48 rfl h (fun h => ?_) (fun h => ?_)
        · refine S_weak (ls' := [(1, x0), (0, x1), (9, 0), (9, 0), (0, x4), (0, v2), (9, 0), (9, 0), (9, 0)]) ⟨Or.inr rfl, ⟨Or.inr rfl, ⟨Or.inl rfl, ⟨Or.inl rfl, ⟨Or.inr rfl, ⟨Or.inr rfl, ⟨Or.inl rfl, ⟨Or.inl rfl, ⟨Or.inl rfl, trivial⟩⟩⟩⟩⟩⟩⟩⟩⟩ ?_
          exact s_X4_arePostings_55 hD r0 h hz
        · refine S_iconst dX4_arePostings_51 rfl ?_
          refine S_goto (tgt := 56) dX4_arePostings_52 rfl ?_
          refine S_weak (ls' := [(1, x0), (0, x1), (9, 0), (9, 0), (0, x4), (0, v2), (9, 0), (9, 0), (9, 0)]) ⟨Or.inr rfl, ⟨Or.inr rfl, ⟨Or.inl rfl, ⟨Or.inl rfl, ⟨Or.inr rfl, ⟨Or.inr rfl, ⟨Or.inl rfl, ⟨Or.inl rfl, ⟨Or.inl rfl, trivial⟩⟩⟩⟩⟩⟩⟩⟩⟩ ?_
          exact s_X4_arePostings_56 hD r0 h hz
  · refine S_iconst dX4_arePostings_10 rfl ?_
    obtain rfl := r0 _ (some_P (P := fun r => P r) h hz)
    exact P_ret dX4_arePostings_11 rfl (Or.inr ⟨rfl, Or.inl rfl⟩)
theorem F_X4_arePostings {g : GG} {d : Nat} (hD : 1 ≤ d) {x0 x1 x2 x3 x4 : Int} {M : MM} {r : Int} (h : f_X4_arePostings x0 x1 x2 x3 x4 M = some r) : Sem g d YX4_arePostings 0 (ini YX4_arePostings [(1, x0), (0, x1), (0, x2), (0, x3), (0, x4)]) [] M ((0, r), M) := by
  change Sem g d YX4_arePostings 0 [(1, x0), (0, x1), (0, x2), (0, x3), (0, x4), (9, 0), (9, 0), (9, 0), (9, 0)] [] M ((0, r), M)
  exact s_X4_arePostings_0 hD (P := fun x => x = r) (fun q e => by rw [e]) h rfl
/-! PeerSearch$Packet.isWell()Z -/
theorem dX4_isWell_0 : decode cX4_isWell 0 = .ok (.aload_n 0, 1) := by decide +kernel
theorem dX4_isWell_1 : decode cX4_isWell 1 = .ok (.iconst 0, 1) := by decide +kernel
theorem dX4_isWell_2 : decode cX4_isWell 2 = .ok (.invokevirtual 43, 3) := by decide +kernel
theorem dX4_isWell_5 : decode cX4_isWell 5 = .ok (.ifCond .ne 5, 3) := by decide +kernel
theorem dX4_isWell_8 : decode cX4_isWell 8 = .ok (.iconst 0, 1) := by decide +kernel
theorem dX4_isWell_9 : decode cX4_isWell 9 = .ok (.ireturn, 1) := by decide +kernel
theorem dX4_isWell_10 : decode cX4_isWell 10 = .ok (.aload_n 0, 1) := by decide +kernel
theorem dX4_isWell_11 : decode cX4_isWell 11 = .ok (.invokevirtual 50, 3) := by decide +kernel
theorem dX4_isWell_14 : decode cX4_isWell 14 = .ok (.tableswitch 181 1 15 #[74, 74, 80, 87, 80, 93, 99, 74, 80, 110, 116, 123, 160, 171, 74], 74) := by decide +kernel
theorem dX4_isWell_88 : decode cX4_isWell 88 = .ok (.aload_n 0, 1) := by decide +kernel
theorem dX4_isWell_89 : decode cX4_isWell 89 = .ok (.iconst 0, 1) := by decide +kernel
theorem dX4_isWell_90 : decode cX4_isWell 90 = .ok (.invokevirtual 47, 3) := by decide +kernel
theorem dX4_isWell_93 : decode cX4_isWell 93 = .ok (.ireturn, 1) := by decide +kernel
theorem dX4_isWell_94 : decode cX4_isWell 94 = .ok (.aload_n 0, 1) := by decide +kernel
theorem dX4_isWell_95 : decode cX4_isWell 95 = .ok (.bipush 20, 2) := by decide +kernel
theorem dX4_isWell_97 : decode cX4_isWell 97 = .ok (.invokevirtual 47, 3) := by decide +kernel
theorem dX4_isWell_100 : decode cX4_isWell 100 = .ok (.ireturn, 1) := by decide +kernel
theorem dX4_isWell_101 : decode cX4_isWell 101 = .ok (.aload_n 0, 1) := by decide +kernel
theorem dX4_isWell_102 : decode cX4_isWell 102 = .ok (.iconst 0, 1) := by decide +kernel
theorem dX4_isWell_103 : decode cX4_isWell 103 = .ok (.invokevirtual 54, 3) := by decide +kernel
theorem dX4_isWell_106 : decode cX4_isWell 106 = .ok (.ireturn, 1) := by decide +kernel
theorem dX4_isWell_107 : decode cX4_isWell 107 = .ok (.aload_n 0, 1) := by decide +kernel
theorem dX4_isWell_108 : decode cX4_isWell 108 = .ok (.iconst 2, 1) := by decide +kernel
theorem dX4_isWell_109 : decode cX4_isWell 109 = .ok (.invokevirtual 54, 3) := by decide +kernel
theorem dX4_isWell_112 : decode cX4_isWell 112 = .ok (.ireturn, 1) := by decide +kernel
theorem dX4_isWell_113 : decode cX4_isWell 113 = .ok (.aload_n 0, 1) := by decide +kernel
theorem dX4_isWell_114 : decode cX4_isWell 114 = .ok (.bipush 20, 2) := by decide +kernel
theorem dX4_isWell_116 : decode cX4_isWell 116 = .ok (.iconst 1, 1) := by decide +kernel
theorem dX4_isWell_117 : decode cX4_isWell 117 = .ok (.bipush 16, 2) := by decide +kernel
theorem dX4_isWell_119 : decode cX4_isWell 119 = .ok (.iconst 3, 1) := by decide +kernel
theorem dX4_isWell_120 : decode cX4_isWell 120 = .ok (.invokevirtual 57, 3) := by decide +kernel
theorem dX4_isWell_123 : decode cX4_isWell 123 = .ok (.ireturn, 1) := by decide +kernel
theorem dX4_isWell_124 : decode cX4_isWell 124 = .ok (.aload_n 0, 1) := by decide +kernel
theorem dX4_isWell_125 : decode cX4_isWell 125 = .ok (.iconst 2, 1) := by decide +kernel
theorem dX4_isWell_126 : decode cX4_isWell 126 = .ok (.invokevirtual 61, 3) := by decide +kernel
theorem dX4_isWell_129 : decode cX4_isWell 129 = .ok (.ireturn, 1) := by decide +kernel
theorem dX4_isWell_130 : decode cX4_isWell 130 = .ok (.aload_n 0, 1) := by decide +kernel
theorem dX4_isWell_131 : decode cX4_isWell 131 = .ok (.bipush 22, 2) := by decide +kernel
theorem dX4_isWell_133 : decode cX4_isWell 133 = .ok (.invokevirtual 61, 3) := by decide +kernel
theorem dX4_isWell_136 : decode cX4_isWell 136 = .ok (.ireturn, 1) := by decide +kernel
theorem dX4_isWell_137 : decode cX4_isWell 137 = .ok (.aload_n 0, 1) := by decide +kernel
theorem dX4_isWell_138 : decode cX4_isWell 138 = .ok (.iconst 1, 1) := by decide +kernel
theorem dX4_isWell_139 : decode cX4_isWell 139 = .ok (.invokevirtual 43, 3) := by decide +kernel
theorem dX4_isWell_142 : decode cX4_isWell 142 = .ok (.ifCond .eq 30, 3) := by decide +kernel
theorem dX4_isWell_145 : decode cX4_isWell 145 = .ok (.aload_n 0, 1) := by decide +kernel
theorem dX4_isWell_146 : decode cX4_isWell 146 = .ok (.bipush 25, 2) := by decide +kernel
theorem dX4_isWell_148 : decode cX4_isWell 148 = .ok (.iconst 1, 1) := by decide +kernel
theorem dX4_isWell_149 : decode cX4_isWell 149 = .ok (.invokevirtual 33, 3) := by decide +kernel
theorem dX4_isWell_152 : decode cX4_isWell 152 = .ok (.iconst 2, 1) := by decide +kernel
theorem dX4_isWell_153 : decode cX4_isWell 153 = .ok (.if_icmp .ge 19, 3) := by decide +kernel
theorem dX4_isWell_156 : decode cX4_isWell 156 = .ok (.aload_n 0, 1) := by decide +kernel
theorem dX4_isWell_157 : decode cX4_isWell 157 = .ok (.iconst 1, 1) := by decide +kernel
theorem dX4_isWell_158 : decode cX4_isWell 158 = .ok (.iconst 0, 1) := by decide +kernel
theorem dX4_isWell_159 : decode cX4_isWell 159 = .ok (.bipush 30, 2) := by decide +kernel
theorem dX4_isWell_161 : decode cX4_isWell 161 = .ok (.iconst 3, 1) := by decide +kernel
theorem dX4_isWell_162 : decode cX4_isWell 162 = .ok (.invokevirtual 57, 3) := by decide +kernel
theorem dX4_isWell_165 : decode cX4_isWell 165 = .ok (.ifCond .eq 7, 3) := by decide +kernel
theorem dX4_isWell_168 : decode cX4_isWell 168 = .ok (.iconst 1, 1) := by decide +kernel
theorem dX4_isWell_169 : decode cX4_isWell 169 = .ok (.goto 4, 3) := by decide +kernel
theorem dX4_isWell_172 : decode cX4_isWell 172 = .ok (.iconst 0, 1) := by decide +kernel
theorem dX4_isWell_173 : decode cX4_isWell 173 = .ok (.ireturn, 1) := by decide +kernel
theorem dX4_isWell_174 : decode cX4_isWell 174 = .ok (.aload_n 0, 1) := by decide +kernel
theorem dX4_isWell_175 : decode cX4_isWell 175 = .ok (.bipush 20, 2) := by decide +kernel
theorem dX4_isWell_177 : decode cX4_isWell 177 = .ok (.iconst 1, 1) := by decide +kernel
theorem dX4_isWell_178 : decode cX4_isWell 178 = .ok (.bipush 30, 2) := by decide +kernel
theorem dX4_isWell_180 : decode cX4_isWell 180 = .ok (.iconst 2, 1) := by decide +kernel
theorem dX4_isWell_181 : decode cX4_isWell 181 = .ok (.invokevirtual 57, 3) := by decide +kernel
theorem dX4_isWell_184 : decode cX4_isWell 184 = .ok (.ireturn, 1) := by decide +kernel
theorem dX4_isWell_185 : decode cX4_isWell 185 = .ok (.aload_n 0, 1) := by decide +kernel
theorem dX4_isWell_186 : decode cX4_isWell 186 = .ok (.iconst 0, 1) := by decide +kernel
theorem dX4_isWell_187 : decode cX4_isWell 187 = .ok (.iconst 0, 1) := by decide +kernel
theorem dX4_isWell_188 : decode cX4_isWell 188 = .ok (.bipush 30, 2) := by decide +kernel
theorem dX4_isWell_190 : decode cX4_isWell 190 = .ok (.iconst 3, 1) := by decide +kernel
theorem dX4_isWell_191 : decode cX4_isWell 191 = .ok (.invokevirtual 57, 3) := by decide +kernel
theorem dX4_isWell_194 : decode cX4_isWell 194 = .ok (.ireturn, 1) := by decide +kernel
theorem dX4_isWell_195 : decode cX4_isWell 195 = .ok (.iconst 0, 1) := by decide +kernel
theorem dX4_isWell_196 : decode cX4_isWell 196 = .ok (.ireturn, 1) := by decide +kernel
def j_X4_isWell_173 (y0 : Int) (M : MM) : Option (Int) :=
  bz y0 (some y0)
def j_X4_isWell_172 (M : MM) : Option (Int) :=
  j_X4_isWell_173 0 M
def f_X4_isWell (x0 : Int) (M : MM) : Option (Int) :=
  ck 4 x0 M <| (f_X4_isAtLeast x0 0 M).bind fun v1 =>
  if w32 v1 = 0 then
    some 0
  else
    ck 4 x0 M <| (f_X4_type x0 M).bind fun v2 =>
    swt (w32 v2) 1 [
      (
      ck 4 x0 M <| (f_X4_isLong x0 0 M).bind fun v3 =>
      bz v3 (some v3)
      ),
      (
      ck 4 x0 M <| (f_X4_isLong x0 0 M).bind fun v4 =>
      bz v4 (some v4)
      ),
      (
      ck 4 x0 M <| (f_X4_isLong x0 20 M).bind fun v5 =>
      bz v5 (some v5)
      ),
      (
      ck 4 x0 M <| (f_X4_areNodes x0 0 M).bind fun v6 =>
      bz v6 (some v6)
      ),
      (
      ck 4 x0 M <| (f_X4_isLong x0 20 M).bind fun v7 =>
      bz v7 (some v7)
      ),
      (
      ck 4 x0 M <| (f_X4_areNodes x0 2 M).bind fun v8 =>
      bz v8 (some v8)
      ),
      (
      ck 4 x0 M <| (f_X4_arePostings x0 20 1 16 3 M).bind fun v9 =>
      bz v9 (some v9)
      ),
      (
      ck 4 x0 M <| (f_X4_isLong x0 0 M).bind fun v10 =>
      bz v10 (some v10)
      ),
      (
      ck 4 x0 M <| (f_X4_isLong x0 20 M).bind fun v11 =>
      bz v11 (some v11)
      ),
      (
      ck 4 x0 M <| (f_X4_areBits x0 2 M).bind fun v12 =>
      bz v12 (some v12)
      ),
      (
      ck 4 x0 M <| (f_X4_areBits x0 22 M).bind fun v13 =>
      bz v13 (some v13)
      ),
      (
      ck 4 x0 M <| (f_X4_isAtLeast x0 1 M).bind fun v14 =>
      if w32 v14 = 0 then
        j_X4_isWell_172 M
      else
        ck 4 x0 M <| (f_X4_get x0 25 1 M).bind fun v15 =>
        if w32 v15 < w32 2 then
          ck 4 x0 M <| (f_X4_arePostings x0 1 0 30 3 M).bind fun v16 =>
          if w32 v16 = 0 then
            j_X4_isWell_172 M
          else
            j_X4_isWell_173 1 M
        else
          j_X4_isWell_172 M
      ),
      (
      ck 4 x0 M <| (f_X4_arePostings x0 20 1 30 2 M).bind fun v17 =>
      bz v17 (some v17)
      ),
      (
      ck 4 x0 M <| (f_X4_arePostings x0 0 0 30 3 M).bind fun v18 =>
      bz v18 (some v18)
      ),
      (
      ck 4 x0 M <| (f_X4_isLong x0 0 M).bind fun v19 =>
      bz v19 (some v19)
      )
      ] (
      some 0
      )
theorem s_X4_isWell_173 {g : GG} {d : Nat} (hD : 2 ≤ d) {y0 : Int} {M : MM} {o : AV × MM} {P : (Int) → Prop} (r0 : ∀ r : Int, P r → o = ((0, r), M)) {z : Int} (h : j_X4_isWell_173 y0 M = some z) (hz : P z) : Sem g d YX4_isWell 173 [(9, 0)] [(0, y0)] M o := by
  delta j_X4_isWell_173 at h
  obtain ⟨hb, h⟩ := bz_some h
  obtain rfl := r0 _ (some_P (P := fun r => P r) h hz)
  exact P_ret dX4_isWell_173 rfl (Or.inr ⟨rfl, hb⟩)
theorem s_X4_isWell_172 {g : GG} {d : Nat} (hD : 2 ≤ d) {M : MM} {o : AV × MM} {P : (Int) → Prop} (r0 : ∀ r : Int, P r → o = ((0, r), M)) {z : Int} (h : j_X4_isWell_172 M = some z) (hz : P z) : Sem g d YX4_isWell 172 [(9, 0)] [] M o := by
  delta j_X4_isWell_172 at h
  refine S_iconst dX4_isWell_172 rfl ?_
  exact s_X4_isWell_173 hD r0 h hz
theorem s_X4_isWell_0 {g : GG} {d : Nat} (hD : 2 ≤ d) {x0 : Int} {M : MM} {o : AV × MM} {P : (Int) → Prop} (r0 : ∀ r : Int, P r → o = ((0, r), M)) {z : Int} (h : f_X4_isWell x0 M = some z) (hz : P z) : Sem g d YX4_isWell 0 [(1, x0)] [] M o := by
  delta f_X4_isWell at h
  refine S_aload_n (i := 0) dX4_isWell_0 rfl rfl ?_
  refine S_iconst dX4_isWell_1 rfl ?_
  refine P_invVp 0 [(0, 0)] [] CVX4_isAtLeast MLX4_43 dX4_isWell_2 rfl rfl rfl rfl rfl (by omega) h (fun r h => F_X4_isAtLeast (by omega) h) (fun v1 h => ?_)
  refine P_if_ne (tgt := 10) dX4_isWell_5 rfl h (fun h => ?_) (fun h => ?_)
  · refine S_aload_n (i := 0) dX4_isWell_10 rfl rfl ?_
    refine P_invVp 0 [] [] CVX4_type MLX4_50 dX4_isWell_11 rfl rfl rfl rfl rfl (by omega) h (fun r h => F_X4_type (by omega) h) (fun v2 h => ?_)
    refine P_swt [88, 88, 94, 101, 94, 107, 113, 88, 94, 124, 130, 137, 174, 185, 88] 195 dX4_isWell_14 rfl rfl rfl rfl h ?_ (fun h => ?_)
    · intro i X hX h t ht
      rcases i with _ | i
      · have e1 := Option.some.inj hX
        have e2 := Option.some.inj ht
        subst e1
        subst e2
        refine S_aload_n (i := 0) dX4_isWell_88 rfl rfl ?_
        refine S_iconst dX4_isWell_89 rfl ?_
        refine P_invVp 0 [(0, 0)] [] CVX4_isLong MLX4_47 dX4_isWell_90 rfl rfl rfl rfl rfl (by omega) h (fun r h => F_X4_isLong (by omega) h) (fun v3 h => ?_)
        obtain ⟨hb, h⟩ := bz_some h
        obtain rfl := r0 _ (some_P (P := fun r => P r) h hz)
        exact P_ret dX4_isWell_93 rfl (Or.inr ⟨rfl, hb⟩)
      rcases i with _ | i
      · have e1 := Option.some.inj hX
        have e2 := Option.some.inj ht
        subst e1
        subst e2
        refine S_aload_n (i := 0) dX4_isWell_88 rfl rfl ?_
        refine S_iconst dX4_isWell_89 rfl ?_
        refine P_invVp 0 [(0, 0)] [] CVX4_isLong MLX4_47 dX4_isWell_90 rfl rfl rfl rfl rfl (by omega) h (fun r h => F_X4_isLong (by omega) h) (fun v4 h => ?_)
        obtain ⟨hb, h⟩ := bz_some h
        obtain rfl := r0 _ (some_P (P := fun r => P r) h hz)
        exact P_ret dX4_isWell_93 rfl (Or.inr ⟨rfl, hb⟩)
      rcases i with _ | i
      · have e1 := Option.some.inj hX
        have e2 := Option.some.inj ht
        subst e1
        subst e2
        refine S_aload_n (i := 0) dX4_isWell_94 rfl rfl ?_
        refine S_bipush (z := 20) dX4_isWell_95 rfl ?_
        refine P_invVp 0 [(0, 20)] [] CVX4_isLong MLX4_47 dX4_isWell_97 rfl rfl rfl rfl rfl (by omega) h (fun r h => F_X4_isLong (by omega) h) (fun v5 h => ?_)
        obtain ⟨hb, h⟩ := bz_some h
        obtain rfl := r0 _ (some_P (P := fun r => P r) h hz)
        exact P_ret dX4_isWell_100 rfl (Or.inr ⟨rfl, hb⟩)
      rcases i with _ | i
      · have e1 := Option.some.inj hX
        have e2 := Option.some.inj ht
        subst e1
        subst e2
        refine S_aload_n (i := 0) dX4_isWell_101 rfl rfl ?_
        refine S_iconst dX4_isWell_102 rfl ?_
        refine P_invVp 0 [(0, 0)] [] CVX4_areNodes MLX4_54 dX4_isWell_103 rfl rfl rfl rfl rfl (by omega) h (fun r h => F_X4_areNodes (by omega) h) (fun v6 h => ?_)
        obtain ⟨hb, h⟩ := bz_some h
        obtain rfl := r0 _ (some_P (P := fun r => P r) h hz)
        exact P_ret dX4_isWell_106 rfl (Or.inr ⟨rfl, hb⟩)
      rcases i with _ | i
      · have e1 := Option.some.inj hX
        have e2 := Option.some.inj ht
        subst e1
        subst e2
        refine S_aload_n (i := 0) dX4_isWell_94 rfl rfl ?_
        refine S_bipush (z := 20) dX4_isWell_95 rfl ?_
        refine P_invVp 0 [(0, 20)] [] CVX4_isLong MLX4_47 dX4_isWell_97 rfl rfl rfl rfl rfl (by omega) h (fun r h => F_X4_isLong (by omega) h) (fun v7 h => ?_)
        obtain ⟨hb, h⟩ := bz_some h
        obtain rfl := r0 _ (some_P (P := fun r => P r) h hz)
        exact P_ret dX4_isWell_100 rfl (Or.inr ⟨rfl, hb⟩)
      rcases i with _ | i
      · have e1 := Option.some.inj hX
        have e2 := Option.some.inj ht
        subst e1
        subst e2
        refine S_aload_n (i := 0) dX4_isWell_107 rfl rfl ?_
        refine S_iconst dX4_isWell_108 rfl ?_
        refine P_invVp 0 [(0, 2)] [] CVX4_areNodes MLX4_54 dX4_isWell_109 rfl rfl rfl rfl rfl (by omega) h (fun r h => F_X4_areNodes (by omega) h) (fun v8 h => ?_)
        obtain ⟨hb, h⟩ := bz_some h
        obtain rfl := r0 _ (some_P (P := fun r => P r) h hz)
        exact P_ret dX4_isWell_112 rfl (Or.inr ⟨rfl, hb⟩)
      rcases i with _ | i
      · have e1 := Option.some.inj hX
        have e2 := Option.some.inj ht
        subst e1
        subst e2
        refine S_aload_n (i := 0) dX4_isWell_113 rfl rfl ?_
        refine S_bipush (z := 20) dX4_isWell_114 rfl ?_
        refine S_iconst dX4_isWell_116 rfl ?_
        refine S_bipush (z := 16) dX4_isWell_117 rfl ?_
        refine S_iconst dX4_isWell_119 rfl ?_
        refine P_invVp 0 [(0, 20), (0, 1), (0, 16), (0, 3)] [] CVX4_arePostings MLX4_57 dX4_isWell_120 rfl rfl rfl rfl rfl (by omega) h (fun r h => F_X4_arePostings (by omega) h) (fun v9 h => ?_)
        obtain ⟨hb, h⟩ := bz_some h
        obtain rfl := r0 _ (some_P (P := fun r => P r) h hz)
        exact P_ret dX4_isWell_123 rfl (Or.inr ⟨rfl, hb⟩)
      rcases i with _ | i
      · have e1 := Option.some.inj hX
        have e2 := Option.some.inj ht
        subst e1
        subst e2
        refine S_aload_n (i := 0) dX4_isWell_88 rfl rfl ?_
        refine S_iconst dX4_isWell_89 rfl ?_
        refine P_invVp 0 [(0, 0)] [] CVX4_isLong MLX4_47 dX4_isWell_90 rfl rfl rfl rfl rfl (by omega) h (fun r h => F_X4_isLong (by omega) h) (fun v10 h => ?_)
        obtain ⟨hb, h⟩ := bz_some h
        obtain rfl := r0 _ (some_P (P := fun r => P r) h hz)
        exact P_ret dX4_isWell_93 rfl (Or.inr ⟨rfl, hb⟩)
      rcases i with _ | i
      · have e1 := Option.some.inj hX
        have e2 := Option.some.inj ht
        subst e1
        subst e2
        refine S_aload_n (i := 0) dX4_isWell_94 rfl rfl ?_
        refine S_bipush (z := 20) dX4_isWell_95 rfl ?_
        refine P_invVp 0 [(0, 20)] [] CVX4_isLong MLX4_47 dX4_isWell_97 rfl rfl rfl rfl rfl (by omega) h (fun r h => F_X4_isLong (by omega) h) (fun v11 h => ?_)
        obtain ⟨hb, h⟩ := bz_some h
        obtain rfl := r0 _ (some_P (P := fun r => P r) h hz)
        exact P_ret dX4_isWell_100 rfl (Or.inr ⟨rfl, hb⟩)
      rcases i with _ | i
      · have e1 := Option.some.inj hX
        have e2 := Option.some.inj ht
        subst e1
        subst e2
        refine S_aload_n (i := 0) dX4_isWell_124 rfl rfl ?_
        refine S_iconst dX4_isWell_125 rfl ?_
        refine P_invVp 0 [(0, 2)] [] CVX4_areBits MLX4_61 dX4_isWell_126 rfl rfl rfl rfl rfl (by omega) h (fun r h => F_X4_areBits (by omega) h) (fun v12 h => ?_)
        obtain ⟨hb, h⟩ := bz_some h
        obtain rfl := r0 _ (some_P (P := fun r => P r) h hz)
        exact P_ret dX4_isWell_129 rfl (Or.inr ⟨rfl, hb⟩)
      rcases i with _ | i
      · have e1 := Option.some.inj hX
        have e2 := Option.some.inj ht
        subst e1
        subst e2
        refine S_aload_n (i := 0) dX4_isWell_130 rfl rfl ?_
        refine S_bipush (z := 22) dX4_isWell_131 rfl ?_
        refine P_invVp 0 [(0, 22)] [] CVX4_areBits MLX4_61 dX4_isWell_133 rfl rfl rfl rfl rfl (by omega) h (fun r h => F_X4_areBits (by omega) h) (fun v13 h => ?_)
        obtain ⟨hb, h⟩ := bz_some h
        obtain rfl := r0 _ (some_P (P := fun r => P r) h hz)
        exact P_ret dX4_isWell_136 rfl (Or.inr ⟨rfl, hb⟩)
      rcases i with _ | i
      · have e1 := Option.some.inj hX
        have e2 := Option.some.inj ht
        subst e1
        subst e2
        refine S_aload_n (i := 0) dX4_isWell_137 rfl rfl ?_
        refine S_iconst dX4_isWell_138 rfl ?_
        refine P_invVp 0 [(0, 1)] [] CVX4_isAtLeast MLX4_43 dX4_isWell_139 rfl rfl rfl rfl rfl (by omega) h (fun r h => F_X4_isAtLeast (by omega) h) (fun v14 h => ?_)
        refine P_if_eq (tgt := 172) dX4_isWell_142 rfl h (fun h => ?_) (fun h => ?_)
        · refine S_weak (ls' := [(9, 0)]) ⟨Or.inl rfl, trivial⟩ ?_
          exact s_X4_isWell_172 hD r0 h hz
        · refine S_aload_n (i := 0) dX4_isWell_145 rfl rfl ?_
          refine S_bipush (z := 25) dX4_isWell_146 rfl ?_
          refine S_iconst dX4_isWell_148 rfl ?_
          refine P_invVp 0 [(0, 25), (0, 1)] [] CVX4_get MLX4_33 dX4_isWell_149 rfl rfl rfl rfl rfl (by omega) h (fun r h => F_X4_get (by omega) h) (fun v15 h => ?_)
          refine S_iconst dX4_isWell_152 rfl ?_
          refine P_icmp_ge (tgt := 172) dX4_isWell_153 rfl h (fun h => ?_) (fun h => ?_)
          · refine S_weak (ls' := [(9, 0)]) ⟨Or.inl rfl, trivial⟩ ?_
            exact s_X4_isWell_172 hD r0 h hz
          · refine S_aload_n (i := 0) dX4_isWell_156 rfl rfl ?_
            refine S_iconst dX4_isWell_157 rfl ?_
            refine S_iconst dX4_isWell_158 rfl ?_
            refine S_bipush (z := 30) dX4_isWell_159 rfl ?_
            refine S_iconst dX4_isWell_161 rfl ?_
            refine P_invVp 0 [(0, 1), (0, 0), (0, 30), (0, 3)] [] CVX4_arePostings MLX4_57 dX4_isWell_162 rfl rfl rfl rfl rfl (by omega) h (fun r h => F_X4_arePostings (by omega) h) (fun v16 h => ?_)
            refine P_if_eq (tgt := 172) dX4_isWell_165 rfl h (fun h => ?_) (fun h => ?_)
            · refine S_weak (ls' := [(9, 0)]) ⟨Or.inl rfl, trivial⟩ ?_
              exact s_X4_isWell_172 hD r0 h hz
            · refine S_iconst dX4_isWell_168 rfl ?_
              refine S_goto (tgt := 173) dX4_isWell_169 rfl ?_
              refine S_weak (ls' := [(9, 0)]) ⟨Or.inl rfl, trivial⟩ ?_
              exact s_X4_isWell_173 hD r0 h hz
      rcases i with _ | i
      · have e1 := Option.some.inj hX
        have e2 := Option.some.inj ht
        subst e1
        subst e2
        refine S_aload_n (i := 0) dX4_isWell_174 rfl rfl ?_
        refine S_bipush (z := 20) dX4_isWell_175 rfl ?_
        refine S_iconst dX4_isWell_177 rfl ?_
        refine S_bipush (z := 30) dX4_isWell_178 rfl ?_
        refine S_iconst dX4_isWell_180 rfl ?_
        refine P_invVp 0 [(0, 20), (0, 1), (0, 30), (0, 2)] [] CVX4_arePostings MLX4_57 dX4_isWell_181 rfl rfl rfl rfl rfl (by omega) h (fun r h => F_X4_arePostings (by omega) h) (fun v17 h => ?_)
        obtain ⟨hb, h⟩ := bz_some h
        obtain rfl := r0 _ (some_P (P := fun r => P r) h hz)
        exact P_ret dX4_isWell_184 rfl (Or.inr ⟨rfl, hb⟩)
      rcases i with _ | i
      · have e1 := Option.some.inj hX
        have e2 := Option.some.inj ht
        subst e1
        subst e2
        refine S_aload_n (i := 0) dX4_isWell_185 rfl rfl ?_
        refine S_iconst dX4_isWell_186 rfl ?_
        refine S_iconst dX4_isWell_187 rfl ?_
        refine S_bipush (z := 30) dX4_isWell_188 rfl ?_
        refine S_iconst dX4_isWell_190 rfl ?_
        refine P_invVp 0 [(0, 0), (0, 0), (0, 30), (0, 3)] [] CVX4_arePostings MLX4_57 dX4_isWell_191 rfl rfl rfl rfl rfl (by omega) h (fun r h => F_X4_arePostings (by omega) h) (fun v18 h => ?_)
        obtain ⟨hb, h⟩ := bz_some h
        obtain rfl := r0 _ (some_P (P := fun r => P r) h hz)
        exact P_ret dX4_isWell_194 rfl (Or.inr ⟨rfl, hb⟩)
      rcases i with _ | i
      · have e1 := Option.some.inj hX
        have e2 := Option.some.inj ht
        subst e1
        subst e2
        refine S_aload_n (i := 0) dX4_isWell_88 rfl rfl ?_
        refine S_iconst dX4_isWell_89 rfl ?_
        refine P_invVp 0 [(0, 0)] [] CVX4_isLong MLX4_47 dX4_isWell_90 rfl rfl rfl rfl rfl (by omega) h (fun r h => F_X4_isLong (by omega) h) (fun v19 h => ?_)
        obtain ⟨hb, h⟩ := bz_some h
        obtain rfl := r0 _ (some_P (P := fun r => P r) h hz)
        exact P_ret dX4_isWell_93 rfl (Or.inr ⟨rfl, hb⟩)
      cases hX
    · refine S_iconst dX4_isWell_195 rfl ?_
      obtain rfl := r0 _ (some_P (P := fun r => P r) h hz)
      exact P_ret dX4_isWell_196 rfl (Or.inr ⟨rfl, Or.inl rfl⟩)
  · refine S_iconst dX4_isWell_8 rfl ?_
    obtain rfl := r0 _ (some_P (P := fun r => P r) h hz)
    exact P_ret dX4_isWell_9 rfl (Or.inr ⟨rfl, Or.inl rfl⟩)
theorem F_X4_isWell {g : GG} {d : Nat} (hD : 2 ≤ d) {x0 : Int} {M : MM} {r : Int} (h : f_X4_isWell x0 M = some r) : Sem g d YX4_isWell 0 (ini YX4_isWell [(1, x0)]) [] M ((0, r), M) := by
  change Sem g d YX4_isWell 0 [(1, x0)] [] M ((0, r), M)
  exact s_X4_isWell_0 hD (P := fun x => x = r) (fun q e => by rw [e]) h rfl
/-! PeerSearch$Peer.isAnswer(I)Z -/
theorem dX17_isAnswer_0 : decode cX17_isAnswer 0 = .ok (.iload_n 0, 1) := by decide +kernel
theorem dX17_isAnswer_1 : decode cX17_isAnswer 1 = .ok (.iconst 2, 1) := by decide +kernel
theorem dX17_isAnswer_2 : decode cX17_isAnswer 2 = .ok (.irem, 1) := by decide +kernel
theorem dX17_isAnswer_3 : decode cX17_isAnswer 3 = .ok (.ifCond .ne 7, 3) := by decide +kernel
theorem dX17_isAnswer_6 : decode cX17_isAnswer 6 = .ok (.iconst 1, 1) := by decide +kernel
theorem dX17_isAnswer_7 : decode cX17_isAnswer 7 = .ok (.goto 4, 3) := by decide +kernel
theorem dX17_isAnswer_10 : decode cX17_isAnswer 10 = .ok (.iconst 0, 1) := by decide +kernel
theorem dX17_isAnswer_11 : decode cX17_isAnswer 11 = .ok (.ireturn, 1) := by decide +kernel
def j_X17_isAnswer_11 (y0 : Int) : Option (Int) :=
  bz y0 (some y0)
def f_X17_isAnswer (x0 : Int) : Option (Int) :=
  (rmi x0 2).bind fun v1 =>
  if w32 v1 = 0 then
    j_X17_isAnswer_11 1
  else
    j_X17_isAnswer_11 0
theorem s_X17_isAnswer_11 {g : GG} {d : Nat} (hD : 0 ≤ d) {y0 : Int} {M : MM} {o : AV × MM} {P : (Int) → Prop} (r0 : ∀ r : Int, P r → o = ((0, r), M)) {z : Int} (h : j_X17_isAnswer_11 y0 = some z) (hz : P z) : Sem g d YX17_isAnswer 11 [(9, 0)] [(0, y0)] M o := by
  delta j_X17_isAnswer_11 at h
  obtain ⟨hb, h⟩ := bz_some h
  obtain rfl := r0 _ (some_P (P := fun r => P r) h hz)
  exact P_ret dX17_isAnswer_11 rfl (Or.inr ⟨rfl, hb⟩)
theorem s_X17_isAnswer_0 {g : GG} {d : Nat} (hD : 0 ≤ d) {x0 : Int} {M : MM} {o : AV × MM} {P : (Int) → Prop} (r0 : ∀ r : Int, P r → o = ((0, r), M)) {z : Int} (h : f_X17_isAnswer x0 = some z) (hz : P z) : Sem g d YX17_isAnswer 0 [(0, x0)] [] M o := by
  delta f_X17_isAnswer at h
  refine S_iload_n (i := 0) dX17_isAnswer_0 rfl rfl ?_
  refine S_iconst dX17_isAnswer_1 rfl ?_
  refine P_rmi dX17_isAnswer_2 h (fun v1 h => ?_)
  refine P_if_ne (tgt := 10) dX17_isAnswer_3 rfl h (fun h => ?_) (fun h => ?_)
  · refine S_iconst dX17_isAnswer_10 rfl ?_
    refine S_weak (ls' := [(9, 0)]) ⟨Or.inl rfl, trivial⟩ ?_
    exact s_X17_isAnswer_11 hD r0 h hz
  · refine S_iconst dX17_isAnswer_6 rfl ?_
    refine S_goto (tgt := 11) dX17_isAnswer_7 rfl ?_
    refine S_weak (ls' := [(9, 0)]) ⟨Or.inl rfl, trivial⟩ ?_
    exact s_X17_isAnswer_11 hD r0 h hz
theorem F_X17_isAnswer {g : GG} {d : Nat} (hD : 0 ≤ d) {x0 : Int} {M : MM} {r : Int} (h : f_X17_isAnswer x0 = some r) : Sem g d YX17_isAnswer 0 (ini YX17_isAnswer [(0, x0)]) [] M ((0, r), M) := by
  change Sem g d YX17_isAnswer 0 [(0, x0)] [] M ((0, r), M)
  exact s_X17_isAnswer_0 hD (P := fun x => x = r) (fun q e => by rw [e]) h rfl
/-! PeerSearch$Publishing.answered(LPeerSearch$Work;LPeerSearch$Packet;)V -/
theorem dX30_answered_0 : decode cX30_answered 0 = .ok (.aload_n 0, 1) := by decide +kernel
theorem dX30_answered_1 : decode cX30_answered 1 = .ok (.dup, 1) := by decide +kernel
theorem dX30_answered_2 : decode cX30_answered 2 = .ok (.getfield 51, 3) := by decide +kernel
theorem dX30_answered_5 : decode cX30_answered 5 = .ok (.iconst 1, 1) := by decide +kernel
theorem dX30_answered_6 : decode cX30_answered 6 = .ok (.iadd, 1) := by decide +kernel
theorem dX30_answered_7 : decode cX30_answered 7 = .ok (.putfield 51, 3) := by decide +kernel
theorem dX30_answered_10 : decode cX30_answered 10 = .ok (.aload_n 0, 1) := by decide +kernel
theorem dX30_answered_11 : decode cX30_answered 11 = .ok (.aload_n 1, 1) := by decide +kernel
theorem dX30_answered_12 : decode cX30_answered 12 = .ok (.invokevirtual 168, 3) := by decide +kernel
theorem dX30_answered_15 : decode cX30_answered 15 = .ok (.return_, 1) := by decide +kernel
def f_X30_answered (x0 x1 x2 : Int) (M : MM) : Option (MM) :=
  (gfi 30 5 x0 M).bind fun v1 =>
  (pfi 30 5 x0 (v1 + 1) M).bind fun M1 =>
  ck 30 x0 M1 <| (f_X30_over x0 x1 M1).bind fun M2 =>
  some M2
theorem s_X30_answered_0 {g : GG} {d : Nat} (hD : 214 ≤ d) {x0 x1 x2 : Int} {M : MM} {o : AV × MM} {P : (MM) → Prop} (r0 : ∀ r : MM, P r → o = ((9, 0), r)) {z : MM} (h : f_X30_answered x0 x1 x2 M = some z) (hz : P z) : Sem g d YX30_answered 0 [(1, x0), (1, x1), (1, x2)] [] M o := by
  delta f_X30_answered at h
  refine S_aload_n (i := 0) dX30_answered_0 rfl rfl ?_
  refine S_dup dX30_answered_1 (Nat.le_of_ble_eq_true rfl) ?_
  refine P_gfi FLX30_51 rfl dX30_answered_2 h (fun v1 h => ?_)
  refine S_iconst dX30_answered_5 rfl ?_
  refine S_iadd dX30_answered_6 ?_
  refine P_pfi FLX30_51 FPX30_51 rfl dX30_answered_7 h (fun M1 h => ?_)
  refine S_aload_n (i := 0) dX30_answered_10 rfl rfl ?_
  refine S_aload_n (i := 1) dX30_answered_11 rfl rfl ?_
  refine P_invVm' [(1, x1)] [] CVX30_over MLX30_168 dX30_answered_12 rfl rfl rfl rfl (by omega) h (fun r h => F_X30_over (by omega) h) (fun M2 h => ?_)
  obtain rfl := r0 _ (some_P (P := fun r => P r) h hz)
  exact S_return dX30_answered_15 rfl
theorem F_X30_answered {g : GG} {d : Nat} (hD : 214 ≤ d) {x0 x1 x2 : Int} {M : MM} {r : MM} (h : f_X30_answered x0 x1 x2 M = some r) : Sem g d YX30_answered 0 (ini YX30_answered [(1, x0), (1, x1), (1, x2)]) [] M ((9, 0), r) := by
  change Sem g d YX30_answered 0 [(1, x0), (1, x1), (1, x2)] [] M ((9, 0), r)
  exact s_X30_answered_0 hD (P := fun x => x = r) (fun q e => by rw [e]) h rfl
/-! PeerSearch$Work.answered(ILPeerSearch$Key;LPeerSearch$Packet;)V -/
theorem dX11_answered_0 : decode cX11_answered 0 = .ok (.iload_n 1, 1) := by decide +kernel
theorem dX11_answered_1 : decode cX11_answered 1 = .ok (.iconst 1, 1) := by decide +kernel
theorem dX11_answered_2 : decode cX11_answered 2 = .ok (.if_icmp .ne 13, 3) := by decide +kernel
theorem dX11_answered_5 : decode cX11_answered 5 = .ok (.aload_n 0, 1) := by decide +kernel
theorem dX11_answered_6 : decode cX11_answered 6 = .ok (.getfield 71, 3) := by decide +kernel
theorem dX11_answered_9 : decode cX11_answered 9 = .ok (.aload_n 0, 1) := by decide +kernel
theorem dX11_answered_10 : decode cX11_answered 10 = .ok (.aload_n 3, 1) := by decide +kernel
theorem dX11_answered_11 : decode cX11_answered 11 = .ok (.invokevirtual 183, 3) := by decide +kernel
theorem dX11_answered_14 : decode cX11_answered 14 = .ok (.return_, 1) := by decide +kernel
theorem dX11_answered_15 : decode cX11_answered 15 = .ok (.aload_n 0, 1) := by decide +kernel
theorem dX11_answered_16 : decode cX11_answered 16 = .ok (.getfield 47, 3) := by decide +kernel
theorem dX11_answered_19 : decode cX11_answered 19 = .ok (.dup, 1) := by decide +kernel
theorem dX11_answered_20 : decode cX11_answered 20 = .ok (.getfield 144, 3) := by decide +kernel
theorem dX11_answered_23 : decode cX11_answered 23 = .ok (.iconst 1, 1) := by decide +kernel
theorem dX11_answered_24 : decode cX11_answered 24 = .ok (.isub, 1) := by decide +kernel
theorem dX11_answered_25 : decode cX11_answered 25 = .ok (.putfield 144, 3) := by decide +kernel
theorem dX11_answered_28 : decode cX11_answered 28 = .ok (.aload_n 0, 1) := by decide +kernel
theorem dX11_answered_29 : decode cX11_answered 29 = .ok (.getfield 47, 3) := by decide +kernel
theorem dX11_answered_32 : decode cX11_answered 32 = .ok (.aload_n 2, 1) := by decide +kernel
theorem dX11_answered_33 : decode cX11_answered 33 = .ok (.invokevirtual 187, 3) := by decide +kernel
theorem dX11_answered_36 : decode cX11_answered 36 = .ok (.astore 4, 2) := by decide +kernel
theorem dX11_answered_38 : decode cX11_answered 38 = .ok (.aload 4, 2) := by decide +kernel
theorem dX11_answered_40 : decode cX11_answered 40 = .ok (.ifnull 35, 3) := by decide +kernel
theorem dX11_answered_43 : decode cX11_answered 43 = .ok (.aload 4, 2) := by decide +kernel
theorem dX11_answered_45 : decode cX11_answered 45 = .ok (.iconst 2, 1) := by decide +kernel
theorem dX11_answered_46 : decode cX11_answered 46 = .ok (.putfield 176, 3) := by decide +kernel
theorem dX11_answered_49 : decode cX11_answered 49 = .ok (.aload 4, 2) := by decide +kernel
theorem dX11_answered_51 : decode cX11_answered 51 = .ok (.aload_n 0, 1) := by decide +kernel
theorem dX11_answered_52 : decode cX11_answered 52 = .ok (.getfield 47, 3) := by decide +kernel
theorem dX11_answered_55 : decode cX11_answered 55 = .ok (.getfield 157, 3) := by decide +kernel
theorem dX11_answered_58 : decode cX11_answered 58 = .ok (.ifCond .eq 13, 3) := by decide +kernel
theorem dX11_answered_61 : decode cX11_answered 61 = .ok (.aload_n 3, 1) := by decide +kernel
theorem dX11_answered_62 : decode cX11_answered 62 = .ok (.bipush 25, 2) := by decide +kernel
theorem dX11_answered_64 : decode cX11_answered 64 = .ok (.iconst 2, 1) := by decide +kernel
theorem dX11_answered_65 : decode cX11_answered 65 = .ok (.invokevirtual 191, 3) := by decide +kernel
theorem dX11_answered_68 : decode cX11_answered 68 = .ok (.goto 4, 3) := by decide +kernel
theorem dX11_answered_71 : decode cX11_answered 71 = .ok (.iconst 0, 1) := by decide +kernel
theorem dX11_answered_72 : decode cX11_answered 72 = .ok (.putfield 195, 3) := by decide +kernel
theorem dX11_answered_75 : decode cX11_answered 75 = .ok (.bipush 25, 2) := by decide +kernel
theorem dX11_answered_77 : decode cX11_answered 77 = .ok (.aload_n 0, 1) := by decide +kernel
theorem dX11_answered_78 : decode cX11_answered 78 = .ok (.getfield 47, 3) := by decide +kernel
theorem dX11_answered_81 : decode cX11_answered 81 = .ok (.getfield 157, 3) := by decide +kernel
theorem dX11_answered_84 : decode cX11_answered 84 = .ok (.ifCond .eq 7, 3) := by decide +kernel
theorem dX11_answered_87 : decode cX11_answered 87 = .ok (.iconst 2, 1) := by decide +kernel
theorem dX11_answered_88 : decode cX11_answered 88 = .ok (.goto 4, 3) := by decide +kernel
theorem dX11_answered_91 : decode cX11_answered 91 = .ok (.iconst 0, 1) := by decide +kernel
theorem dX11_answered_92 : decode cX11_answered 92 = .ok (.iadd, 1) := by decide +kernel
theorem dX11_answered_93 : decode cX11_answered 93 = .ok (.istore 5, 2) := by decide +kernel
theorem dX11_answered_95 : decode cX11_answered 95 = .ok (.aload_n 3, 1) := by decide +kernel
theorem dX11_answered_96 : decode cX11_answered 96 = .ok (.iload 5, 2) := by decide +kernel
theorem dX11_answered_98 : decode cX11_answered 98 = .ok (.iconst 1, 1) := by decide +kernel
theorem dX11_answered_99 : decode cX11_answered 99 = .ok (.invokevirtual 191, 3) := by decide +kernel
theorem dX11_answered_102 : decode cX11_answered 102 = .ok (.istore 6, 2) := by decide +kernel
theorem dX11_answered_104 : decode cX11_answered 104 = .ok (.iconst 0, 1) := by decide +kernel
theorem dX11_answered_105 : decode cX11_answered 105 = .ok (.istore 7, 2) := by decide +kernel
theorem dX11_answered_107 : decode cX11_answered 107 = .ok (.iload 7, 2) := by decide +kernel
theorem dX11_answered_109 : decode cX11_answered 109 = .ok (.iload 6, 2) := by decide +kernel
theorem dX11_answered_111 : decode cX11_answered 111 = .ok (.if_icmp .ge 61, 3) := by decide +kernel
theorem dX11_answered_114 : decode cX11_answered 114 = .ok (.aload_n 3, 1) := by decide +kernel
theorem dX11_answered_115 : decode cX11_answered 115 = .ok (.iload 5, 2) := by decide +kernel
theorem dX11_answered_117 : decode cX11_answered 117 = .ok (.iconst 1, 1) := by decide +kernel
theorem dX11_answered_118 : decode cX11_answered 118 = .ok (.iadd, 1) := by decide +kernel
theorem dX11_answered_119 : decode cX11_answered 119 = .ok (.bipush 21, 2) := by decide +kernel
theorem dX11_answered_121 : decode cX11_answered 121 = .ok (.iload 7, 2) := by decide +kernel
theorem dX11_answered_123 : decode cX11_answered 123 = .ok (.imul, 1) := by decide +kernel
theorem dX11_answered_124 : decode cX11_answered 124 = .ok (.iadd, 1) := by decide +kernel
theorem dX11_answered_125 : decode cX11_answered 125 = .ok (.aload_n 0, 1) := by decide +kernel
theorem dX11_answered_126 : decode cX11_answered 126 = .ok (.getfield 32, 3) := by decide +kernel
theorem dX11_answered_129 : decode cX11_answered 129 = .ok (.getfield 198, 3) := by decide +kernel
theorem dX11_answered_132 : decode cX11_answered 132 = .ok (.invokevirtual 201, 3) := by decide +kernel
theorem dX11_answered_135 : decode cX11_answered 135 = .ok (.aload_n 0, 1) := by decide +kernel
theorem dX11_answered_136 : decode cX11_answered 136 = .ok (.getfield 47, 3) := by decide +kernel
theorem dX11_answered_139 : decode cX11_answered 139 = .ok (.aload_n 0, 1) := by decide +kernel
theorem dX11_answered_140 : decode cX11_answered 140 = .ok (.getfield 32, 3) := by decide +kernel
theorem dX11_answered_143 : decode cX11_answered 143 = .ok (.getfield 198, 3) := by decide +kernel
theorem dX11_answered_146 : decode cX11_answered 146 = .ok (.aload_n 3, 1) := by decide +kernel
theorem dX11_answered_147 : decode cX11_answered 147 = .ok (.iload 5, 2) := by decide +kernel
theorem dX11_answered_149 : decode cX11_answered 149 = .ok (.bipush 21, 2) := by decide +kernel
theorem dX11_answered_151 : decode cX11_answered 151 = .ok (.iadd, 1) := by decide +kernel
theorem dX11_answered_152 : decode cX11_answered 152 = .ok (.bipush 21, 2) := by decide +kernel
theorem dX11_answered_154 : decode cX11_answered 154 = .ok (.iload 7, 2) := by decide +kernel
theorem dX11_answered_156 : decode cX11_answered 156 = .ok (.imul, 1) := by decide +kernel
theorem dX11_answered_157 : decode cX11_answered 157 = .ok (.iadd, 1) := by decide +kernel
theorem dX11_answered_158 : decode cX11_answered 158 = .ok (.iconst 1, 1) := by decide +kernel
theorem dX11_answered_159 : decode cX11_answered 159 = .ok (.invokevirtual 191, 3) := by decide +kernel
theorem dX11_answered_162 : decode cX11_answered 162 = .ok (.iconst 0, 1) := by decide +kernel
theorem dX11_answered_163 : decode cX11_answered 163 = .ok (.invokevirtual 113, 3) := by decide +kernel
theorem dX11_answered_166 : decode cX11_answered 166 = .ok (.iinc 7 1, 3) := by decide +kernel
theorem dX11_answered_169 : decode cX11_answered 169 = .ok (.goto (-62), 3) := by decide +kernel
theorem dX11_answered_172 : decode cX11_answered 172 = .ok (.aload_n 0, 1) := by decide +kernel
theorem dX11_answered_173 : decode cX11_answered 173 = .ok (.invokevirtual 92, 3) := by decide +kernel
theorem dX11_answered_176 : decode cX11_answered 176 = .ok (.return_, 1) := by decide +kernel
def b_X11_answered_107 (x0 x3 x5 x6 x7 : Int) (M : MM) : Option ((Int × MM) ⊕ (MM)) :=
  if w32 x7 < w32 x6 then
    (gfr 11 0 x0 M).bind fun v1 =>
    (gfr 6 13 v1 M).bind fun v2 =>
    ck 4 x3 M <| (f_X4_getKey x3 ((x5 + 1) + (21 * x7)) v2 M).bind fun M2 =>
    (gfr 11 1 x0 M2).bind fun v3 =>
    (gfr 11 0 x0 M2).bind fun v4 =>
    (gfr 6 13 v4 M2).bind fun v5 =>
    ck 4 x3 M2 <| (f_X4_get x3 ((x5 + 21) + (21 * x7)) 1 M2).bind fun v6 =>
    ck 15 v3 M2 <| (f_X15_add v3 v5 v6 0 M2).bind fun M3 =>
    cnt (x7 + 1, M3)
  else
    xit (ck 11 x0 M <| (f_X11_goOn x0 M).bind fun M1 => some M1)
def l_X11_answered_107 (x0 x3 x5 x6 x7 : Int) (M : MM) : Option (MM) := lpN (fun s : Int × MM => b_X11_answered_107 x0 x3 x5 x6 s.1 s.2) FU (x7, M)
def j_X11_answered_92 (x0 x3 y0 y1 : Int) (M : MM) : Option (MM) :=
  ck 4 x3 M <| (f_X4_get x3 (y0 + y1) 1 M).bind fun v1 =>
  l_X11_answered_107 x0 x3 (y0 + y1) v1 0 M
def j_X11_answered_75 (x0 x3 : Int) (M : MM) : Option (MM) :=
  (gfr 11 1 x0 M).bind fun v1 =>
  (gfi 15 5 v1 M).bind fun v2 =>
  if w32 v2 = 0 then
    j_X11_answered_92 x0 x3 25 0 M
  else
    j_X11_answered_92 x0 x3 25 2 M
def j_X11_answered_72 (x0 x3 y0 y1 : Int) (M : MM) : Option (MM) :=
  (pfi 27 3 y0 y1 M).bind fun M1 =>
  j_X11_answered_75 x0 x3 M1
def j_X11_answered_14 (M : MM) : Option (MM) :=
  some M
def f_X11_answered (x0 x1 x2 x3 : Int) (M : MM) : Option (MM) :=
  if w32 x1 = w32 1 then
    (gfr 11 3 x0 M).bind fun v8 =>
    ckE 30 v8 M (Option.bind (f_X30_answered v8 x0 x3 M) fun r => j_X11_answered_14 r) (ckE 31 v8 M (Option.bind (fREC 200 0 v8 x0 x3 M) fun r => j_X11_answered_14 r) (none))
  else
    (gfr 11 1 x0 M).bind fun v1 =>
    (gfi 15 4 v1 M).bind fun v2 =>
    (pfi 15 4 v1 (v2 - 1) M).bind fun M1 =>
    (gfr 11 1 x0 M1).bind fun v3 =>
    ck 15 v3 M1 <| (f_X15_find v3 x2 M1).bind fun v4 =>
    if v4 = -1 then
      j_X11_answered_75 x0 x3 M1
    else
      (pfi 27 2 v4 2 M1).bind fun M2 =>
      (gfr 11 1 x0 M2).bind fun v5 =>
      (gfi 15 5 v5 M2).bind fun v6 =>
      if w32 v6 = 0 then
        j_X11_answered_72 x0 x3 v4 0 M2
      else
        ck 4 x3 M2 <| (f_X4_get x3 25 2 M2).bind fun v7 =>
        j_X11_answered_72 x0 x3 v4 v7 M2
theorem s_X11_answered_107 {g : GG} {d : Nat} (hD : 215 ≤ d) {x0 x3 x5 x6 x7 : Int} {M : MM} {o : AV × MM} {P : ((Int × MM) ⊕ (MM)) → Prop} (c0 : ∀ s : Int × MM, P (.inl s) → Sem g d YX11_answered 107 [(1, x0), (9, 0), (9, 0), (1, x3), (9, 0), (0, x5), (0, x6), (0, s.1)] [] s.2 o) (r0 : ∀ r : MM, P (.inr r) → o = ((9, 0), r)) {z : (Int × MM) ⊕ (MM)} (h : b_X11_answered_107 x0 x3 x5 x6 x7 M = some z) (hz : P z) : Sem g d YX11_answered 107 [(1, x0), (9, 0), (9, 0), (1, x3), (9, 0), (0, x5), (0, x6), (0, x7)] [] M o := by
  delta b_X11_answered_107 at h
  refine S_iload dX11_answered_107 rfl ?_
  refine S_iload dX11_answered_109 rfl ?_
  refine P_icmp_ge (tgt := 172) dX11_answered_111 rfl h (fun h => ?_) (fun h => ?_)
  · obtain ⟨z0, h, hz⟩ := xit_some' (P := fun r => P r) h hz
    refine S_aload_n (i := 0) dX11_answered_172 rfl rfl ?_
    refine P_invVm' [] [] CVX11_goOn MLX11_92 dX11_answered_173 rfl rfl rfl rfl (by omega) h (fun r h => F_X11_goOn (by omega) h) (fun M1 h => ?_)
    obtain rfl := r0 _ (some_P (P := fun r => P (.inr r)) h hz)
    exact S_return dX11_answered_176 rfl
  · refine S_aload_n (i := 3) dX11_answered_114 rfl rfl ?_
    refine S_iload dX11_answered_115 rfl ?_
    refine S_iconst dX11_answered_117 rfl ?_
    refine S_iadd dX11_answered_118 ?_
    refine S_bipush (z := 21) dX11_answered_119 rfl ?_
    refine S_iload dX11_answered_121 rfl ?_
    refine S_imul dX11_answered_123 ?_
    refine S_iadd dX11_answered_124 ?_
    refine S_aload_n (i := 0) dX11_answered_125 rfl rfl ?_
    refine P_gfr FLX11_32 rfl dX11_answered_126 h (fun v1 h => ?_)
    refine P_gfr FLX11_198 rfl dX11_answered_129 h (fun v2 h => ?_)
    refine P_invVm' [(0, (x5 + 1) + (21 * x7)), (1, v2)] [] CVX4_getKey MLX11_201 dX11_answered_132 rfl rfl rfl rfl (by omega) h (fun r h => F_X4_getKey (by omega) h) (fun M2 h => ?_)
    refine S_aload_n (i := 0) dX11_answered_135 rfl rfl ?_
    refine P_gfr FLX11_47 rfl dX11_answered_136 h (fun v3 h => ?_)
    refine S_aload_n (i := 0) dX11_answered_139 rfl rfl ?_
    refine P_gfr FLX11_32 rfl dX11_answered_140 h (fun v4 h => ?_)
    refine P_gfr FLX11_198 rfl dX11_answered_143 h (fun v5 h => ?_)
    refine S_aload_n (i := 3) dX11_answered_146 rfl rfl ?_
    refine S_iload dX11_answered_147 rfl ?_
    refine S_bipush (z := 21) dX11_answered_149 rfl ?_
    refine S_iadd dX11_answered_151 ?_
    refine S_bipush (z := 21) dX11_answered_152 rfl ?_
    refine S_iload dX11_answered_154 rfl ?_
    refine S_imul dX11_answered_156 ?_
    refine S_iadd dX11_answered_157 ?_
    refine S_iconst dX11_answered_158 rfl ?_
    refine P_invVp 0 [(0, (x5 + 21) + (21 * x7)), (0, 1)] [(1, v5), (1, v3)] CVX4_get MLX11_191 dX11_answered_159 rfl rfl rfl rfl rfl (by omega) h (fun r h => F_X4_get (by omega) h) (fun v6 h => ?_)
    refine S_iconst dX11_answered_162 rfl ?_
    refine P_invVm' [(1, v5), (0, v6), (0, 0)] [] CVX15_add MLX11_113 dX11_answered_163 rfl rfl rfl rfl (by omega) h (fun r h => F_X15_add (by omega) h) (fun M3 h => ?_)
    refine S_iinc dX11_answered_166 rfl rfl rfl ?_
    change Sem g d YX11_answered 169 [(1, x0), (9, 0), (9, 0), (1, x3), (9, 0), (0, x5), (0, x6), (0, x7 + 1)] [] M3 o
    refine S_goto (tgt := 107) dX11_answered_169 rfl ?_
    exact c0 (x7 + 1, M3) (some_P (P := fun r => P r) h hz)
theorem sl_X11_answered_107 {g : GG} {d : Nat} (hD : 215 ≤ d) {x0 x3 x5 x6 x7 : Int} {M : MM} {o : AV × MM} {P : (MM) → Prop} (r0 : ∀ r : MM, P r → o = ((9, 0), r)) {z : MM} (h : l_X11_answered_107 x0 x3 x5 x6 x7 M = some z) (hz : P z) : Sem g d YX11_answered 107 [(1, x0), (9, 0), (9, 0), (1, x3), (9, 0), (0, x5), (0, x6), (0, x7)] [] M o := by
  refine lp_sound (S := fun s : Int × MM => Sem g d YX11_answered 107 [(1, x0), (9, 0), (9, 0), (1, x3), (9, 0), (0, x5), (0, x6), (0, s.1)] [] s.2 o) (P := P) ?_ FU (x7, M) z h hz
  intro s x hx hP
  exact s_X11_answered_107 hD (P := Sum.elim (fun s : Int × MM => Sem g d YX11_answered 107 [(1, x0), (9, 0), (9, 0), (1, x3), (9, 0), (0, x5), (0, x6), (0, s.1)] [] s.2 o) P) (fun s h => h) (fun s h => r0 s h) hx hP
theorem s_X11_answered_92 {g : GG} {d : Nat} (hD : 215 ≤ d) {x0 x3 y0 y1 : Int} {M : MM} {o : AV × MM} {P : (MM) → Prop} (r0 : ∀ r : MM, P r → o = ((9, 0), r)) {z : MM} (h : j_X11_answered_92 x0 x3 y0 y1 M = some z) (hz : P z) : Sem g d YX11_answered 92 [(1, x0), (9, 0), (9, 0), (1, x3), (9, 0), (9, 0), (9, 0), (9, 0)] [(0, y1), (0, y0)] M o := by
  delta j_X11_answered_92 at h
  refine S_iadd dX11_answered_92 ?_
  refine S_istore dX11_answered_93 (Nat.le_of_ble_eq_true rfl) rfl rfl ?_
  change Sem g d YX11_answered 95 [(1, x0), (9, 0), (9, 0), (1, x3), (9, 0), (0, y0 + y1), (9, 0), (9, 0)] [] M o
  refine S_aload_n (i := 3) dX11_answered_95 rfl rfl ?_
  refine S_iload dX11_answered_96 rfl ?_
  refine S_iconst dX11_answered_98 rfl ?_
  refine P_invVp 0 [(0, y0 + y1), (0, 1)] [] CVX4_get MLX11_191 dX11_answered_99 rfl rfl rfl rfl rfl (by omega) h (fun r h => F_X4_get (by omega) h) (fun v1 h => ?_)
  refine S_istore dX11_answered_102 (Nat.le_of_ble_eq_true rfl) rfl rfl ?_
  change Sem g d YX11_answered 104 [(1, x0), (9, 0), (9, 0), (1, x3), (9, 0), (0, y0 + y1), (0, v1), (9, 0)] [] M o
  refine S_iconst dX11_answered_104 rfl ?_
  refine S_istore dX11_answered_105 (Nat.le_of_ble_eq_true rfl) rfl rfl ?_
  change Sem g d YX11_answered 107 [(1, x0), (9, 0), (9, 0), (1, x3), (9, 0), (0, y0 + y1), (0, v1), (0, 0)] [] M o
  exact sl_X11_answered_107 hD r0 h hz
theorem s_X11_answered_75 {g : GG} {d : Nat} (hD : 215 ≤ d) {x0 x3 : Int} {M : MM} {o : AV × MM} {P : (MM) → Prop} (r0 : ∀ r : MM, P r → o = ((9, 0), r)) {z : MM} (h : j_X11_answered_75 x0 x3 M = some z) (hz : P z) : Sem g d YX11_answered 75 [(1, x0), (9, 0), (9, 0), (1, x3), (9, 0), (9, 0), (9, 0), (9, 0)] [] M o := by
  delta j_X11_answered_75 at h
  refine S_bipush (z := 25) dX11_answered_75 rfl ?_
  refine S_aload_n (i := 0) dX11_answered_77 rfl rfl ?_
  refine P_gfr FLX11_47 rfl dX11_answered_78 h (fun v1 h => ?_)
  refine P_gfi FLX11_157 rfl dX11_answered_81 h (fun v2 h => ?_)
  refine P_if_eq (tgt := 91) dX11_answered_84 rfl h (fun h => ?_) (fun h => ?_)
  · refine S_iconst dX11_answered_91 rfl ?_
    exact s_X11_answered_92 hD r0 h hz
  · refine S_iconst dX11_answered_87 rfl ?_
    refine S_goto (tgt := 92) dX11_answered_88 rfl ?_
    exact s_X11_answered_92 hD r0 h hz
theorem s_X11_answered_72 {g : GG} {d : Nat} (hD : 215 ≤ d) {x0 x3 y0 y1 : Int} {M : MM} {o : AV × MM} {P : (MM) → Prop} (r0 : ∀ r : MM, P r → o = ((9, 0), r)) {z : MM} (h : j_X11_answered_72 x0 x3 y0 y1 M = some z) (hz : P z) : Sem g d YX11_answered 72 [(1, x0), (9, 0), (9, 0), (1, x3), (9, 0), (9, 0), (9, 0), (9, 0)] [(0, y1), (1, y0)] M o := by
  delta j_X11_answered_72 at h
  refine P_pfi FLX11_195 FPX11_195 rfl dX11_answered_72 h (fun M1 h => ?_)
  exact s_X11_answered_75 hD r0 h hz
theorem s_X11_answered_14 {g : GG} {d : Nat} (hD : 215 ≤ d) {M : MM} {o : AV × MM} {P : (MM) → Prop} (r0 : ∀ r : MM, P r → o = ((9, 0), r)) {z : MM} (h : j_X11_answered_14 M = some z) (hz : P z) : Sem g d YX11_answered 14 [(9, 0), (9, 0), (9, 0), (9, 0), (9, 0), (9, 0), (9, 0), (9, 0)] [] M o := by
  delta j_X11_answered_14 at h
  obtain rfl := r0 _ (some_P (P := fun r => P r) h hz)
  exact S_return dX11_answered_14 rfl
theorem s_X11_answered_0 {g : GG} {d : Nat} (hD : 215 ≤ d) {x0 x1 x2 x3 : Int} {M : MM} {o : AV × MM} {P : (MM) → Prop} (r0 : ∀ r : MM, P r → o = ((9, 0), r)) {z : MM} (h : f_X11_answered x0 x1 x2 x3 M = some z) (hz : P z) : Sem g d YX11_answered 0 [(1, x0), (0, x1), (1, x2), (1, x3), (9, 0), (9, 0), (9, 0), (9, 0)] [] M o := by
  delta f_X11_answered at h
  refine S_iload_n (i := 1) dX11_answered_0 rfl rfl ?_
  refine S_iconst dX11_answered_1 rfl ?_
  refine P_icmp_ne (tgt := 15) dX11_answered_2 rfl h (fun h => ?_) (fun h => ?_)
  · refine S_aload_n (i := 0) dX11_answered_15 rfl rfl ?_
    refine P_gfr FLX11_47 rfl dX11_answered_16 h (fun v1 h => ?_)
    refine S_dup dX11_answered_19 (Nat.le_of_ble_eq_true rfl) ?_
    refine P_gfi FLX11_144 rfl dX11_answered_20 h (fun v2 h => ?_)
    refine S_iconst dX11_answered_23 rfl ?_
    refine S_isub dX11_answered_24 ?_
    refine P_pfi FLX11_144 FPX11_144 rfl dX11_answered_25 h (fun M1 h => ?_)
    refine S_aload_n (i := 0) dX11_answered_28 rfl rfl ?_
    refine P_gfr FLX11_47 rfl dX11_answered_29 h (fun v3 h => ?_)
    refine S_aload_n (i := 2) dX11_answered_32 rfl rfl ?_
    refine P_invVp 1 [(1, x2)] [] CVX15_find MLX11_187 dX11_answered_33 rfl rfl rfl rfl rfl (by omega) h (fun r h => F_X15_find (by omega) h) (fun v4 h => ?_)
    refine S_astore dX11_answered_36 (Nat.le_of_ble_eq_true rfl) rfl rfl ?_
    change Sem g d YX11_answered 38 [(1, x0), (0, x1), (1, x2), (1, x3), (1, v4), (9, 0), (9, 0), (9, 0)] [] M1 o
    refine S_aload dX11_answered_38 rfl ?_
    refine P_ifnull (tgt := 75) dX11_answered_40 rfl h (fun h => ?_) (fun h => ?_)
    · refine S_weak (ls' := [(1, x0), (9, 0), (9, 0), (1, x3), (9, 0), (9, 0), (9, 0), (9, 0)]) ⟨Or.inr rfl, ⟨Or.inl rfl, ⟨Or.inl rfl, ⟨Or.inr rfl, ⟨Or.inl rfl, ⟨Or.inl rfl, ⟨Or.inl rfl, ⟨Or.inl rfl, trivial⟩⟩⟩⟩⟩⟩⟩⟩ ?_
      exact s_X11_answered_75 hD r0 h hz
    · refine S_aload dX11_answered_43 rfl ?_
      refine S_iconst dX11_answered_45 rfl ?_
      refine P_pfi FLX11_176 FPX11_176 rfl dX11_answered_46 h (fun M2 h => ?_)
      refine S_aload dX11_answered_49 rfl ?_
      refine S_aload_n (i := 0) dX11_answered_51 rfl rfl ?_
      refine P_gfr FLX11_47 rfl dX11_answered_52 h (fun v5 h => ?_)
      refine P_gfi FLX11_157 rfl dX11_answered_55 h (fun v6 h => ?_)
      refine P_if_eq (tgt := 71) dX11_answered_58 rfl h (fun h => ?_) (fun h => ?_)
      · refine S_iconst dX11_answered_71 rfl ?_
        refine S_weak (ls' := [(1, x0), (9, 0), (9, 0), (1, x3), (9, 0), (9, 0), (9, 0), (9, 0)]) ⟨Or.inr rfl, ⟨Or.inl rfl, ⟨Or.inl rfl, ⟨Or.inr rfl, ⟨Or.inl rfl, ⟨Or.inl rfl, ⟨Or.inl rfl, ⟨Or.inl rfl, trivial⟩⟩⟩⟩⟩⟩⟩⟩ ?_
        exact s_X11_answered_72 hD r0 h hz
      · refine S_aload_n (i := 3) dX11_answered_61 rfl rfl ?_
        refine S_bipush (z := 25) dX11_answered_62 rfl ?_
        refine S_iconst dX11_answered_64 rfl ?_
        refine P_invVp 0 [(0, 25), (0, 2)] [(1, v4)] CVX4_get MLX11_191 dX11_answered_65 rfl rfl rfl rfl rfl (by omega) h (fun r h => F_X4_get (by omega) h) (fun v7 h => ?_)
        refine S_goto (tgt := 72) dX11_answered_68 rfl ?_
        refine S_weak (ls' := [(1, x0), (9, 0), (9, 0), (1, x3), (9, 0), (9, 0), (9, 0), (9, 0)]) ⟨Or.inr rfl, ⟨Or.inl rfl, ⟨Or.inl rfl, ⟨Or.inr rfl, ⟨Or.inl rfl, ⟨Or.inl rfl, ⟨Or.inl rfl, ⟨Or.inl rfl, trivial⟩⟩⟩⟩⟩⟩⟩⟩ ?_
        exact s_X11_answered_72 hD r0 h hz
  · refine S_aload_n (i := 0) dX11_answered_5 rfl rfl ?_
    refine P_gfr FLX11_71 rfl dX11_answered_6 h (fun v8 h => ?_)
    refine S_aload_n (i := 0) dX11_answered_9 rfl rfl ?_
    refine S_aload_n (i := 3) dX11_answered_10 rfl rfl ?_
    rcases ckE_some h with h | h
    · refine P_invPm' [(1, x0), (1, x3)] [] CPX30_answered q1952 dX11_answered_11 rfl rfl rfl rfl (by omega) h (fun r h => F_X30_answered (by omega) h) (fun r h => ?_)
      refine S_weak (ls' := [(9, 0), (9, 0), (9, 0), (9, 0), (9, 0), (9, 0), (9, 0), (9, 0)]) ⟨Or.inl rfl, ⟨Or.inl rfl, ⟨Or.inl rfl, ⟨Or.inl rfl, ⟨Or.inl rfl, ⟨Or.inl rfl, ⟨Or.inl rfl, ⟨Or.inl rfl, trivial⟩⟩⟩⟩⟩⟩⟩⟩ ?_
      exact s_X11_answered_14 hD r0 h hz
    rcases ckE_some h with h | h
    · refine P_invPm' [(1, x0), (1, x3)] [] CPX31_answered q1952 dX11_answered_11 rfl rfl rfl rfl (by omega) h (fun r h => FRECX31_answered (by omega) h) (fun r h => ?_)
      refine S_weak (ls' := [(9, 0), (9, 0), (9, 0), (9, 0), (9, 0), (9, 0), (9, 0), (9, 0)]) ⟨Or.inl rfl, ⟨Or.inl rfl, ⟨Or.inl rfl, ⟨Or.inl rfl, ⟨Or.inl rfl, ⟨Or.inl rfl, ⟨Or.inl rfl, ⟨Or.inl rfl, trivial⟩⟩⟩⟩⟩⟩⟩⟩ ?_
      exact s_X11_answered_14 hD r0 h hz
    cases h
theorem F_X11_answered {g : GG} {d : Nat} (hD : 215 ≤ d) {x0 x1 x2 x3 : Int} {M : MM} {r : MM} (h : f_X11_answered x0 x1 x2 x3 M = some r) : Sem g d YX11_answered 0 (ini YX11_answered [(1, x0), (0, x1), (1, x2), (1, x3)]) [] M ((9, 0), r) := by
  change Sem g d YX11_answered 0 [(1, x0), (0, x1), (1, x2), (1, x3), (9, 0), (9, 0), (9, 0), (9, 0)] [] M ((9, 0), r)
  exact s_X11_answered_0 hD (P := fun x => x = r) (fun q e => by rw [e]) h rfl
/-! PeerSearch$Peer.takeAnswer(ILPeerSearch$Packet;LPeerSearch$Key;)V -/
theorem dX17_takeAnswer_0 : decode cX17_takeAnswer 0 = .ok (.aload_n 0, 1) := by decide +kernel
theorem dX17_takeAnswer_1 : decode cX17_takeAnswer 1 = .ok (.aload_n 2, 1) := by decide +kernel
theorem dX17_takeAnswer_2 : decode cX17_takeAnswer 2 = .ok (.invokevirtual 250, 3) := by decide +kernel
theorem dX17_takeAnswer_5 : decode cX17_takeAnswer 5 = .ok (.invokevirtual 252, 3) := by decide +kernel
theorem dX17_takeAnswer_8 : decode cX17_takeAnswer 8 = .ok (.istore 4, 2) := by decide +kernel
theorem dX17_takeAnswer_10 : decode cX17_takeAnswer 10 = .ok (.iload 4, 2) := by decide +kernel
theorem dX17_takeAnswer_12 : decode cX17_takeAnswer 12 = .ok (.iconst (-1), 1) := by decide +kernel
theorem dX17_takeAnswer_13 : decode cX17_takeAnswer 13 = .ok (.if_icmp .ne 7, 3) := by decide +kernel
theorem dX17_takeAnswer_16 : decode cX17_takeAnswer 16 = .ok (.aconst_null, 1) := by decide +kernel
theorem dX17_takeAnswer_17 : decode cX17_takeAnswer 17 = .ok (.goto 10, 3) := by decide +kernel
theorem dX17_takeAnswer_20 : decode cX17_takeAnswer 20 = .ok (.aload_n 0, 1) := by decide +kernel
theorem dX17_takeAnswer_21 : decode cX17_takeAnswer 21 = .ok (.getfield 34, 3) := by decide +kernel
theorem dX17_takeAnswer_24 : decode cX17_takeAnswer 24 = .ok (.iload 4, 2) := by decide +kernel
theorem dX17_takeAnswer_26 : decode cX17_takeAnswer 26 = .ok (.aaload, 1) := by decide +kernel
theorem dX17_takeAnswer_27 : decode cX17_takeAnswer 27 = .ok (.astore 5, 2) := by decide +kernel
theorem dX17_takeAnswer_29 : decode cX17_takeAnswer 29 = .ok (.aload 5, 2) := by decide +kernel
theorem dX17_takeAnswer_31 : decode cX17_takeAnswer 31 = .ok (.ifnull 38, 3) := by decide +kernel
theorem dX17_takeAnswer_34 : decode cX17_takeAnswer 34 = .ok (.aload 5, 2) := by decide +kernel
theorem dX17_takeAnswer_36 : decode cX17_takeAnswer 36 = .ok (.getfield 132, 3) := by decide +kernel
theorem dX17_takeAnswer_39 : decode cX17_takeAnswer 39 = .ok (.iload_n 1, 1) := by decide +kernel
theorem dX17_takeAnswer_40 : decode cX17_takeAnswer 40 = .ok (.if_icmp .ne 29, 3) := by decide +kernel
theorem dX17_takeAnswer_43 : decode cX17_takeAnswer 43 = .ok (.aload 5, 2) := by decide +kernel
theorem dX17_takeAnswer_45 : decode cX17_takeAnswer 45 = .ok (.getfield 150, 3) := by decide +kernel
theorem dX17_takeAnswer_48 : decode cX17_takeAnswer 48 = .ok (.iconst 1, 1) := by decide +kernel
theorem dX17_takeAnswer_49 : decode cX17_takeAnswer 49 = .ok (.iadd, 1) := by decide +kernel
theorem dX17_takeAnswer_50 : decode cX17_takeAnswer 50 = .ok (.aload_n 2, 1) := by decide +kernel
theorem dX17_takeAnswer_51 : decode cX17_takeAnswer 51 = .ok (.invokevirtual 146, 3) := by decide +kernel
theorem dX17_takeAnswer_54 : decode cX17_takeAnswer 54 = .ok (.if_icmp .ne 15, 3) := by decide +kernel
theorem dX17_takeAnswer_57 : decode cX17_takeAnswer 57 = .ok (.aload 5, 2) := by decide +kernel
theorem dX17_takeAnswer_59 : decode cX17_takeAnswer 59 = .ok (.getfield 131, 3) := by decide +kernel
theorem dX17_takeAnswer_62 : decode cX17_takeAnswer 62 = .ok (.aload_n 3, 1) := by decide +kernel
theorem dX17_takeAnswer_63 : decode cX17_takeAnswer 63 = .ok (.invokevirtual 255, 3) := by decide +kernel
theorem dX17_takeAnswer_66 : decode cX17_takeAnswer 66 = .ok (.ifCond .ne 14, 3) := by decide +kernel
theorem dX17_takeAnswer_69 : decode cX17_takeAnswer 69 = .ok (.aload_n 0, 1) := by decide +kernel
theorem dX17_takeAnswer_70 : decode cX17_takeAnswer 70 = .ok (.dup, 1) := by decide +kernel
theorem dX17_takeAnswer_71 : decode cX17_takeAnswer 71 = .ok (.getfield 259, 3) := by decide +kernel
theorem dX17_takeAnswer_74 : decode cX17_takeAnswer 74 = .ok (.iconst 1, 1) := by decide +kernel
theorem dX17_takeAnswer_75 : decode cX17_takeAnswer 75 = .ok (.iadd, 1) := by decide +kernel
theorem dX17_takeAnswer_76 : decode cX17_takeAnswer 76 = .ok (.putfield 259, 3) := by decide +kernel
theorem dX17_takeAnswer_79 : decode cX17_takeAnswer 79 = .ok (.return_, 1) := by decide +kernel
theorem dX17_takeAnswer_80 : decode cX17_takeAnswer 80 = .ok (.aload_n 0, 1) := by decide +kernel
theorem dX17_takeAnswer_81 : decode cX17_takeAnswer 81 = .ok (.aload_n 3, 1) := by decide +kernel
theorem dX17_takeAnswer_82 : decode cX17_takeAnswer 82 = .ok (.iload_n 1, 1) := by decide +kernel
theorem dX17_takeAnswer_83 : decode cX17_takeAnswer 83 = .ok (.invokevirtual 241, 3) := by decide +kernel
theorem dX17_takeAnswer_86 : decode cX17_takeAnswer 86 = .ok (.aload_n 0, 1) := by decide +kernel
theorem dX17_takeAnswer_87 : decode cX17_takeAnswer 87 = .ok (.aload_n 0, 1) := by decide +kernel
theorem dX17_takeAnswer_88 : decode cX17_takeAnswer 88 = .ok (.aload_n 2, 1) := by decide +kernel
theorem dX17_takeAnswer_89 : decode cX17_takeAnswer 89 = .ok (.invokevirtual 250, 3) := by decide +kernel
theorem dX17_takeAnswer_92 : decode cX17_takeAnswer 92 = .ok (.invokevirtual 252, 3) := by decide +kernel
theorem dX17_takeAnswer_95 : decode cX17_takeAnswer 95 = .ok (.invokevirtual 262, 3) := by decide +kernel
theorem dX17_takeAnswer_98 : decode cX17_takeAnswer 98 = .ok (.astore 6, 2) := by decide +kernel
theorem dX17_takeAnswer_100 : decode cX17_takeAnswer 100 = .ok (.aload 6, 2) := by decide +kernel
theorem dX17_takeAnswer_102 : decode cX17_takeAnswer 102 = .ok (.getfield 152, 3) := by decide +kernel
theorem dX17_takeAnswer_105 : decode cX17_takeAnswer 105 = .ok (.astore 7, 2) := by decide +kernel
theorem dX17_takeAnswer_107 : decode cX17_takeAnswer 107 = .ok (.aload_n 0, 1) := by decide +kernel
theorem dX17_takeAnswer_108 : decode cX17_takeAnswer 108 = .ok (.getfield 42, 3) := by decide +kernel
theorem dX17_takeAnswer_111 : decode cX17_takeAnswer 111 = .ok (.getfield 266, 3) := by decide +kernel
theorem dX17_takeAnswer_114 : decode cX17_takeAnswer 114 = .ok (.aload_n 3, 1) := by decide +kernel
theorem dX17_takeAnswer_115 : decode cX17_takeAnswer 115 = .ok (.invokevirtual 49, 3) := by decide +kernel
theorem dX17_takeAnswer_118 : decode cX17_takeAnswer 118 = .ok (.aload 7, 2) := by decide +kernel
theorem dX17_takeAnswer_120 : decode cX17_takeAnswer 120 = .ok (.ifnull 34, 3) := by decide +kernel
theorem dX17_takeAnswer_123 : decode cX17_takeAnswer 123 = .ok (.aload 7, 2) := by decide +kernel
theorem dX17_takeAnswer_125 : decode cX17_takeAnswer 125 = .ok (.getfield 155, 3) := by decide +kernel
theorem dX17_takeAnswer_128 : decode cX17_takeAnswer 128 = .ok (.aload 6, 2) := by decide +kernel
theorem dX17_takeAnswer_130 : decode cX17_takeAnswer 130 = .ok (.getfield 158, 3) := by decide +kernel
theorem dX17_takeAnswer_133 : decode cX17_takeAnswer 133 = .ok (.if_icmp .ne 21, 3) := by decide +kernel
theorem dX17_takeAnswer_136 : decode cX17_takeAnswer 136 = .ok (.aload 7, 2) := by decide +kernel
theorem dX17_takeAnswer_138 : decode cX17_takeAnswer 138 = .ok (.aload 6, 2) := by decide +kernel
theorem dX17_takeAnswer_140 : decode cX17_takeAnswer 140 = .ok (.getfield 159, 3) := by decide +kernel
theorem dX17_takeAnswer_143 : decode cX17_takeAnswer 143 = .ok (.aload_n 0, 1) := by decide +kernel
theorem dX17_takeAnswer_144 : decode cX17_takeAnswer 144 = .ok (.getfield 42, 3) := by decide +kernel
theorem dX17_takeAnswer_147 : decode cX17_takeAnswer 147 = .ok (.getfield 266, 3) := by decide +kernel
theorem dX17_takeAnswer_150 : decode cX17_takeAnswer 150 = .ok (.aload_n 2, 1) := by decide +kernel
theorem dX17_takeAnswer_151 : decode cX17_takeAnswer 151 = .ok (.invokevirtual 269, 3) := by decide +kernel
theorem dX17_takeAnswer_154 : decode cX17_takeAnswer 154 = .ok (.return_, 1) := by decide +kernel
def j_X17_takeAnswer_154 (M : MM) : Option (MM) :=
  some M
def j_X17_takeAnswer_69 (x0 : Int) (M : MM) : Option (MM) :=
  (gfi 17 12 x0 M).bind fun v1 =>
  (pfi 17 12 x0 (v1 + 1) M).bind fun M1 =>
  some M1
def j_X17_takeAnswer_27 (x0 x1 x2 x3 y0 : Int) (M : MM) : Option (MM) :=
  if y0 = -1 then
    j_X17_takeAnswer_69 x0 M
  else
    (gfi 24 1 y0 M).bind fun v1 =>
    if w32 v1 = w32 x1 then
      (gfi 24 2 y0 M).bind fun v2 =>
      ck 4 x2 M <| (f_X4_type x2 M).bind fun v3 =>
      if w32 (v2 + 1) = w32 v3 then
        (gfr 24 7 y0 M).bind fun v4 =>
        ck 3 v4 M <| (f_X3_is v4 x3 M).bind fun v5 =>
        if w32 v5 = 0 then
          j_X17_takeAnswer_69 x0 M
        else
          ck 17 x0 M <| (f_X17_see x0 x3 x1 M).bind fun M1 =>
          ck 4 x2 M1 <| (f_X4_number x2 M1).bind fun v6 =>
          ck 17 x0 M1 <| (f_X17_find x0 v6 M1).bind fun v7 =>
          ck 17 x0 M1 <| (f_X17_remove x0 v7 M1).bind fun r1 =>
          (gfr 24 9 r1.1 r1.2).bind fun v8 =>
          (gfr 17 0 x0 r1.2).bind fun v9 =>
          (gfr 6 11 v9 r1.2).bind fun v10 =>
          ck 3 v10 r1.2 <| (f_X3_set v10 x3 r1.2).bind fun M2 =>
          if v8 = -1 then
            j_X17_takeAnswer_154 M2
          else
            (gfi 11 5 v8 M2).bind fun v11 =>
            (gfi 24 5 r1.1 M2).bind fun v12 =>
            if w32 v11 = w32 v12 then
              (gfi 24 6 r1.1 M2).bind fun v13 =>
              (gfr 17 0 x0 M2).bind fun v14 =>
              (gfr 6 11 v14 M2).bind fun v15 =>
              ck 11 v8 M2 <| (f_X11_answered v8 v13 v15 x2 M2).bind fun M3 =>
              j_X17_takeAnswer_154 M3
            else
              j_X17_takeAnswer_154 M2
      else
        j_X17_takeAnswer_69 x0 M
    else
      j_X17_takeAnswer_69 x0 M
def f_X17_takeAnswer (x0 x1 x2 x3 : Int) (M : MM) : Option (MM) :=
  ck 4 x2 M <| (f_X4_number x2 M).bind fun v1 =>
  ck 17 x0 M <| (f_X17_find x0 v1 M).bind fun v2 =>
  if w32 v2 = w32 (-1) then
    j_X17_takeAnswer_27 x0 x1 x2 x3 (-1) M
  else
    (gfr 17 8 x0 M).bind fun v3 =>
    (lar 11 v3 v2 M).bind fun v4 =>
    j_X17_takeAnswer_27 x0 x1 x2 x3 v4 M
theorem s_X17_takeAnswer_154 {g : GG} {d : Nat} (hD : 216 ≤ d) {M : MM} {o : AV × MM} {P : (MM) → Prop} (r0 : ∀ r : MM, P r → o = ((9, 0), r)) {z : MM} (h : j_X17_takeAnswer_154 M = some z) (hz : P z) : Sem g d YX17_takeAnswer 154 [(9, 0), (9, 0), (9, 0), (9, 0), (9, 0), (9, 0), (9, 0), (9, 0)] [] M o := by
  delta j_X17_takeAnswer_154 at h
  obtain rfl := r0 _ (some_P (P := fun r => P r) h hz)
  exact S_return dX17_takeAnswer_154 rfl
theorem s_X17_takeAnswer_69 {g : GG} {d : Nat} (hD : 216 ≤ d) {x0 : Int} {M : MM} {o : AV × MM} {P : (MM) → Prop} (r0 : ∀ r : MM, P r → o = ((9, 0), r)) {z : MM} (h : j_X17_takeAnswer_69 x0 M = some z) (hz : P z) : Sem g d YX17_takeAnswer 69 [(1, x0), (9, 0), (9, 0), (9, 0), (9, 0), (9, 0), (9, 0), (9, 0)] [] M o := by
  delta j_X17_takeAnswer_69 at h
  refine S_aload_n (i := 0) dX17_takeAnswer_69 rfl rfl ?_
  refine S_dup dX17_takeAnswer_70 (Nat.le_of_ble_eq_true rfl) ?_
  refine P_gfi FLX17_259 rfl dX17_takeAnswer_71 h (fun v1 h => ?_)
  refine S_iconst dX17_takeAnswer_74 rfl ?_
  refine S_iadd dX17_takeAnswer_75 ?_
  refine P_pfi FLX17_259 FPX17_259 rfl dX17_takeAnswer_76 h (fun M1 h => ?_)
  obtain rfl := r0 _ (some_P (P := fun r => P r) h hz)
  exact S_return dX17_takeAnswer_79 rfl
theorem s_X17_takeAnswer_27 {g : GG} {d : Nat} (hD : 216 ≤ d) {x0 x1 x2 x3 y0 : Int} {M : MM} {o : AV × MM} {P : (MM) → Prop} (r0 : ∀ r : MM, P r → o = ((9, 0), r)) {z : MM} (h : j_X17_takeAnswer_27 x0 x1 x2 x3 y0 M = some z) (hz : P z) : Sem g d YX17_takeAnswer 27 [(1, x0), (0, x1), (1, x2), (1, x3), (9, 0), (9, 0), (9, 0), (9, 0)] [(1, y0)] M o := by
  delta j_X17_takeAnswer_27 at h
  refine S_astore dX17_takeAnswer_27 (Nat.le_of_ble_eq_true rfl) rfl rfl ?_
  change Sem g d YX17_takeAnswer 29 [(1, x0), (0, x1), (1, x2), (1, x3), (9, 0), (1, y0), (9, 0), (9, 0)] [] M o
  refine S_aload dX17_takeAnswer_29 rfl ?_
  refine P_ifnull (tgt := 69) dX17_takeAnswer_31 rfl h (fun h => ?_) (fun h => ?_)
  · refine S_weak (ls' := [(1, x0), (9, 0), (9, 0), (9, 0), (9, 0), (9, 0), (9, 0), (9, 0)]) ⟨Or.inr rfl, ⟨Or.inl rfl, ⟨Or.inl rfl, ⟨Or.inl rfl, ⟨Or.inl rfl, ⟨Or.inl rfl, ⟨Or.inl rfl, ⟨Or.inl rfl, trivial⟩⟩⟩⟩⟩⟩⟩⟩ ?_
    exact s_X17_takeAnswer_69 hD r0 h hz
  · refine S_aload dX17_takeAnswer_34 rfl ?_
    refine P_gfi FLX17_132 rfl dX17_takeAnswer_36 h (fun v1 h => ?_)
    refine S_iload_n (i := 1) dX17_takeAnswer_39 rfl rfl ?_
    refine P_icmp_ne (tgt := 69) dX17_takeAnswer_40 rfl h (fun h => ?_) (fun h => ?_)
    · refine S_weak (ls' := [(1, x0), (9, 0), (9, 0), (9, 0), (9, 0), (9, 0), (9, 0), (9, 0)]) ⟨Or.inr rfl, ⟨Or.inl rfl, ⟨Or.inl rfl, ⟨Or.inl rfl, ⟨Or.inl rfl, ⟨Or.inl rfl, ⟨Or.inl rfl, ⟨Or.inl rfl, trivial⟩⟩⟩⟩⟩⟩⟩⟩ ?_
      exact s_X17_takeAnswer_69 hD r0 h hz
    · refine S_aload dX17_takeAnswer_43 rfl ?_
      refine P_gfi FLX17_150 rfl dX17_takeAnswer_45 h (fun v2 h => ?_)
      refine S_iconst dX17_takeAnswer_48 rfl ?_
      refine S_iadd dX17_takeAnswer_49 ?_
      refine S_aload_n (i := 2) dX17_takeAnswer_50 rfl rfl ?_
      refine P_invVp 0 [] [(0, v2 + 1)] CVX4_type MLX17_146 dX17_takeAnswer_51 rfl rfl rfl rfl rfl (by omega) h (fun r h => F_X4_type (by omega) h) (fun v3 h => ?_)
      refine P_icmp_ne (tgt := 69) dX17_takeAnswer_54 rfl h (fun h => ?_) (fun h => ?_)
      · refine S_weak (ls' := [(1, x0), (9, 0), (9, 0), (9, 0), (9, 0), (9, 0), (9, 0), (9, 0)]) ⟨Or.inr rfl, ⟨Or.inl rfl, ⟨Or.inl rfl, ⟨Or.inl rfl, ⟨Or.inl rfl, ⟨Or.inl rfl, ⟨Or.inl rfl, ⟨Or.inl rfl, trivial⟩⟩⟩⟩⟩⟩⟩⟩ ?_
        exact s_X17_takeAnswer_69 hD r0 h hz
      · refine S_aload dX17_takeAnswer_57 rfl ?_
        refine P_gfr FLX17_131 rfl dX17_takeAnswer_59 h (fun v4 h => ?_)
        refine S_aload_n (i := 3) dX17_takeAnswer_62 rfl rfl ?_
        refine P_invVp 0 [(1, x3)] [] CVX3_is MLX17_255 dX17_takeAnswer_63 rfl rfl rfl rfl rfl (by omega) h (fun r h => F_X3_is (by omega) h) (fun v5 h => ?_)
        refine P_if_ne (tgt := 80) dX17_takeAnswer_66 rfl h (fun h => ?_) (fun h => ?_)
        · refine S_aload_n (i := 0) dX17_takeAnswer_80 rfl rfl ?_
          refine S_aload_n (i := 3) dX17_takeAnswer_81 rfl rfl ?_
          refine S_iload_n (i := 1) dX17_takeAnswer_82 rfl rfl ?_
          refine P_invVm' [(1, x3), (0, x1)] [] CVX17_see MLX17_241 dX17_takeAnswer_83 rfl rfl rfl rfl (by omega) h (fun r h => F_X17_see (by omega) h) (fun M1 h => ?_)
          refine S_aload_n (i := 0) dX17_takeAnswer_86 rfl rfl ?_
          refine S_aload_n (i := 0) dX17_takeAnswer_87 rfl rfl ?_
          refine S_aload_n (i := 2) dX17_takeAnswer_88 rfl rfl ?_
          refine P_invVp 0 [] [(1, x0), (1, x0)] CVX4_number MLX17_250 dX17_takeAnswer_89 rfl rfl rfl rfl rfl (by omega) h (fun r h => F_X4_number (by omega) h) (fun v6 h => ?_)
          refine P_invVp 0 [(0, v6)] [(1, x0)] CVX17_find MLX17_252 dX17_takeAnswer_92 rfl rfl rfl rfl rfl (by omega) h (fun r h => F_X17_find (by omega) h) (fun v7 h => ?_)
          refine P_invVe 1 [(0, v7)] [] CVX17_remove MLX17_262 dX17_takeAnswer_95 rfl rfl rfl rfl rfl (by omega) h (fun r h => F_X17_remove (by omega) h) (fun r1 h => ?_)
          refine S_astore dX17_takeAnswer_98 (Nat.le_of_ble_eq_true rfl) rfl rfl ?_
          change Sem g d YX17_takeAnswer 100 [(1, x0), (0, x1), (1, x2), (1, x3), (9, 0), (1, y0), (1, r1.1), (9, 0)] [] r1.2 o
          refine S_aload dX17_takeAnswer_100 rfl ?_
          refine P_gfr FLX17_152 rfl dX17_takeAnswer_102 h (fun v8 h => ?_)
          refine S_astore dX17_takeAnswer_105 (Nat.le_of_ble_eq_true rfl) rfl rfl ?_
          change Sem g d YX17_takeAnswer 107 [(1, x0), (0, x1), (1, x2), (1, x3), (9, 0), (1, y0), (1, r1.1), (1, v8)] [] r1.2 o
          refine S_aload_n (i := 0) dX17_takeAnswer_107 rfl rfl ?_
          refine P_gfr FLX17_42 rfl dX17_takeAnswer_108 h (fun v9 h => ?_)
          refine P_gfr FLX17_266 rfl dX17_takeAnswer_111 h (fun v10 h => ?_)
          refine S_aload_n (i := 3) dX17_takeAnswer_114 rfl rfl ?_
          refine P_invVm' [(1, x3)] [] CVX3_set MLX17_49 dX17_takeAnswer_115 rfl rfl rfl rfl (by omega) h (fun r h => F_X3_set (by omega) h) (fun M2 h => ?_)
          refine S_aload dX17_takeAnswer_118 rfl ?_
          refine P_ifnull (tgt := 154) dX17_takeAnswer_120 rfl h (fun h => ?_) (fun h => ?_)
          · refine S_weak (ls' := [(9, 0), (9, 0), (9, 0), (9, 0), (9, 0), (9, 0), (9, 0), (9, 0)]) ⟨Or.inl rfl, ⟨Or.inl rfl, ⟨Or.inl rfl, ⟨Or.inl rfl, ⟨Or.inl rfl, ⟨Or.inl rfl, ⟨Or.inl rfl, ⟨Or.inl rfl, trivial⟩⟩⟩⟩⟩⟩⟩⟩ ?_
            exact s_X17_takeAnswer_154 hD r0 h hz
          · refine S_aload dX17_takeAnswer_123 rfl ?_
            refine P_gfi FLX17_155 rfl dX17_takeAnswer_125 h (fun v11 h => ?_)
            refine S_aload dX17_takeAnswer_128 rfl ?_
            refine P_gfi FLX17_158 rfl dX17_takeAnswer_130 h (fun v12 h => ?_)
            refine P_icmp_ne (tgt := 154) dX17_takeAnswer_133 rfl h (fun h => ?_) (fun h => ?_)
            · refine S_weak (ls' := [(9, 0), (9, 0), (9, 0), (9, 0), (9, 0), (9, 0), (9, 0), (9, 0)]) ⟨Or.inl rfl, ⟨Or.inl rfl, ⟨Or.inl rfl, ⟨Or.inl rfl, ⟨Or.inl rfl, ⟨Or.inl rfl, ⟨Or.inl rfl, ⟨Or.inl rfl, trivial⟩⟩⟩⟩⟩⟩⟩⟩ ?_
              exact s_X17_takeAnswer_154 hD r0 h hz
            · refine S_aload dX17_takeAnswer_136 rfl ?_
              refine S_aload dX17_takeAnswer_138 rfl ?_
              refine P_gfi FLX17_159 rfl dX17_takeAnswer_140 h (fun v13 h => ?_)
              refine S_aload_n (i := 0) dX17_takeAnswer_143 rfl rfl ?_
              refine P_gfr FLX17_42 rfl dX17_takeAnswer_144 h (fun v14 h => ?_)
              refine P_gfr FLX17_266 rfl dX17_takeAnswer_147 h (fun v15 h => ?_)
              refine S_aload_n (i := 2) dX17_takeAnswer_150 rfl rfl ?_
              refine P_invVm' [(0, v13), (1, v15), (1, x2)] [] CVX11_answered MLX17_269 dX17_takeAnswer_151 rfl rfl rfl rfl (by omega) h (fun r h => F_X11_answered (by omega) h) (fun M3 h => ?_)
              refine S_weak (ls' := [(9, 0), (9, 0), (9, 0), (9, 0), (9, 0), (9, 0), (9, 0), (9, 0)]) ⟨Or.inl rfl, ⟨Or.inl rfl, ⟨Or.inl rfl, ⟨Or.inl rfl, ⟨Or.inl rfl, ⟨Or.inl rfl, ⟨Or.inl rfl, ⟨Or.inl rfl, trivial⟩⟩⟩⟩⟩⟩⟩⟩ ?_
              exact s_X17_takeAnswer_154 hD r0 h hz
        · refine S_weak (ls' := [(1, x0), (9, 0), (9, 0), (9, 0), (9, 0), (9, 0), (9, 0), (9, 0)]) ⟨Or.inr rfl, ⟨Or.inl rfl, ⟨Or.inl rfl, ⟨Or.inl rfl, ⟨Or.inl rfl, ⟨Or.inl rfl, ⟨Or.inl rfl, ⟨Or.inl rfl, trivial⟩⟩⟩⟩⟩⟩⟩⟩ ?_
          exact s_X17_takeAnswer_69 hD r0 h hz
theorem s_X17_takeAnswer_0 {g : GG} {d : Nat} (hD : 216 ≤ d) {x0 x1 x2 x3 : Int} {M : MM} {o : AV × MM} {P : (MM) → Prop} (r0 : ∀ r : MM, P r → o = ((9, 0), r)) {z : MM} (h : f_X17_takeAnswer x0 x1 x2 x3 M = some z) (hz : P z) : Sem g d YX17_takeAnswer 0 [(1, x0), (0, x1), (1, x2), (1, x3), (9, 0), (9, 0), (9, 0), (9, 0)] [] M o := by
  delta f_X17_takeAnswer at h
  refine S_aload_n (i := 0) dX17_takeAnswer_0 rfl rfl ?_
  refine S_aload_n (i := 2) dX17_takeAnswer_1 rfl rfl ?_
  refine P_invVp 0 [] [(1, x0)] CVX4_number MLX17_250 dX17_takeAnswer_2 rfl rfl rfl rfl rfl (by omega) h (fun r h => F_X4_number (by omega) h) (fun v1 h => ?_)
  refine P_invVp 0 [(0, v1)] [] CVX17_find MLX17_252 dX17_takeAnswer_5 rfl rfl rfl rfl rfl (by omega) h (fun r h => F_X17_find (by omega) h) (fun v2 h => ?_)
  refine S_istore dX17_takeAnswer_8 (Nat.le_of_ble_eq_true rfl) rfl rfl ?_
  change Sem g d YX17_takeAnswer 10 [(1, x0), (0, x1), (1, x2), (1, x3), (0, v2), (9, 0), (9, 0), (9, 0)] [] M o
  refine S_iload dX17_takeAnswer_10 rfl ?_
  refine S_iconst dX17_takeAnswer_12 rfl ?_
  refine P_icmp_ne (tgt := 20) dX17_takeAnswer_13 rfl h (fun h => ?_) (fun h => ?_)
  · refine S_aload_n (i := 0) dX17_takeAnswer_20 rfl rfl ?_
    refine P_gfr FLX17_34 rfl dX17_takeAnswer_21 h (fun v3 h => ?_)
    refine S_iload dX17_takeAnswer_24 rfl ?_
    refine P_lar (t := 11) ⟨by decide, by decide⟩ dX17_takeAnswer_26 h (fun v4 h => ?_)
    refine S_weak (ls' := [(1, x0), (0, x1), (1, x2), (1, x3), (9, 0), (9, 0), (9, 0), (9, 0)]) ⟨Or.inr rfl, ⟨Or.inr rfl, ⟨Or.inr rfl, ⟨Or.inr rfl, ⟨Or.inl rfl, ⟨Or.inl rfl, ⟨Or.inl rfl, ⟨Or.inl rfl, trivial⟩⟩⟩⟩⟩⟩⟩⟩ ?_
    exact s_X17_takeAnswer_27 hD r0 h hz
  · refine S_null dX17_takeAnswer_16 ?_
    refine S_goto (tgt := 27) dX17_takeAnswer_17 rfl ?_
    refine S_weak (ls' := [(1, x0), (0, x1), (1, x2), (1, x3), (9, 0), (9, 0), (9, 0), (9, 0)]) ⟨Or.inr rfl, ⟨Or.inr rfl, ⟨Or.inr rfl, ⟨Or.inr rfl, ⟨Or.inl rfl, ⟨Or.inl rfl, ⟨Or.inl rfl, ⟨Or.inl rfl, trivial⟩⟩⟩⟩⟩⟩⟩⟩ ?_
    exact s_X17_takeAnswer_27 hD r0 h hz
theorem F_X17_takeAnswer {g : GG} {d : Nat} (hD : 216 ≤ d) {x0 x1 x2 x3 : Int} {M : MM} {r : MM} (h : f_X17_takeAnswer x0 x1 x2 x3 M = some r) : Sem g d YX17_takeAnswer 0 (ini YX17_takeAnswer [(1, x0), (0, x1), (1, x2), (1, x3)]) [] M ((9, 0), r) := by
  change Sem g d YX17_takeAnswer 0 [(1, x0), (0, x1), (1, x2), (1, x3), (9, 0), (9, 0), (9, 0), (9, 0)] [] M ((9, 0), r)
  exact s_X17_takeAnswer_0 hD (P := fun x => x = r) (fun q e => by rw [e]) h rfl
/-! PeerSearch$Peer.deliver(ILPeerSearch$Packet;)V -/
theorem dX17_deliver_0 : decode cX17_deliver 0 = .ok (.aload_n 0, 1) := by decide +kernel
theorem dX17_deliver_1 : decode cX17_deliver 1 = .ok (.dup, 1) := by decide +kernel
theorem dX17_deliver_2 : decode cX17_deliver 2 = .ok (.getfield 212, 3) := by decide +kernel
theorem dX17_deliver_5 : decode cX17_deliver 5 = .ok (.iconst 1, 1) := by decide +kernel
theorem dX17_deliver_6 : decode cX17_deliver 6 = .ok (.iadd, 1) := by decide +kernel
theorem dX17_deliver_7 : decode cX17_deliver 7 = .ok (.putfield 212, 3) := by decide +kernel
theorem dX17_deliver_10 : decode cX17_deliver 10 = .ok (.aload_n 2, 1) := by decide +kernel
theorem dX17_deliver_11 : decode cX17_deliver 11 = .ok (.invokevirtual 215, 3) := by decide +kernel
theorem dX17_deliver_14 : decode cX17_deliver 14 = .ok (.ifCond .ne 14, 3) := by decide +kernel
theorem dX17_deliver_17 : decode cX17_deliver 17 = .ok (.aload_n 0, 1) := by decide +kernel
theorem dX17_deliver_18 : decode cX17_deliver 18 = .ok (.dup, 1) := by decide +kernel
theorem dX17_deliver_19 : decode cX17_deliver 19 = .ok (.getfield 219, 3) := by decide +kernel
theorem dX17_deliver_22 : decode cX17_deliver 22 = .ok (.iconst 1, 1) := by decide +kernel
theorem dX17_deliver_23 : decode cX17_deliver 23 = .ok (.iadd, 1) := by decide +kernel
theorem dX17_deliver_24 : decode cX17_deliver 24 = .ok (.putfield 219, 3) := by decide +kernel
theorem dX17_deliver_27 : decode cX17_deliver 27 = .ok (.return_, 1) := by decide +kernel
theorem dX17_deliver_28 : decode cX17_deliver 28 = .ok (.aload_n 0, 1) := by decide +kernel
theorem dX17_deliver_29 : decode cX17_deliver 29 = .ok (.getfield 42, 3) := by decide +kernel
theorem dX17_deliver_32 : decode cX17_deliver 32 = .ok (.getfield 222, 3) := by decide +kernel
theorem dX17_deliver_35 : decode cX17_deliver 35 = .ok (.astore_n 3, 1) := by decide +kernel
theorem dX17_deliver_36 : decode cX17_deliver 36 = .ok (.aload_n 2, 1) := by decide +kernel
theorem dX17_deliver_37 : decode cX17_deliver 37 = .ok (.iconst 5, 1) := by decide +kernel
theorem dX17_deliver_38 : decode cX17_deliver 38 = .ok (.aload_n 3, 1) := by decide +kernel
theorem dX17_deliver_39 : decode cX17_deliver 39 = .ok (.invokevirtual 225, 3) := by decide +kernel
theorem dX17_deliver_42 : decode cX17_deliver 42 = .ok (.aload_n 2, 1) := by decide +kernel
theorem dX17_deliver_43 : decode cX17_deliver 43 = .ok (.invokevirtual 146, 3) := by decide +kernel
theorem dX17_deliver_46 : decode cX17_deliver 46 = .ok (.invokestatic 229, 3) := by decide +kernel
theorem dX17_deliver_49 : decode cX17_deliver 49 = .ok (.ifCond .eq 13, 3) := by decide +kernel
theorem dX17_deliver_52 : decode cX17_deliver 52 = .ok (.aload_n 0, 1) := by decide +kernel
theorem dX17_deliver_53 : decode cX17_deliver 53 = .ok (.iload_n 1, 1) := by decide +kernel
theorem dX17_deliver_54 : decode cX17_deliver 54 = .ok (.aload_n 2, 1) := by decide +kernel
theorem dX17_deliver_55 : decode cX17_deliver 55 = .ok (.aload_n 3, 1) := by decide +kernel
theorem dX17_deliver_56 : decode cX17_deliver 56 = .ok (.invokevirtual 233, 3) := by decide +kernel
theorem dX17_deliver_59 : decode cX17_deliver 59 = .ok (.goto 51, 3) := by decide +kernel
theorem dX17_deliver_62 : decode cX17_deliver 62 = .ok (.aload_n 2, 1) := by decide +kernel
theorem dX17_deliver_63 : decode cX17_deliver 63 = .ok (.invokevirtual 146, 3) := by decide +kernel
theorem dX17_deliver_66 : decode cX17_deliver 66 = .ok (.bipush 15, 2) := by decide +kernel
theorem dX17_deliver_68 : decode cX17_deliver 68 = .ok (.if_icmp .ne 15, 3) := by decide +kernel
theorem dX17_deliver_71 : decode cX17_deliver 71 = .ok (.aload_n 0, 1) := by decide +kernel
theorem dX17_deliver_72 : decode cX17_deliver 72 = .ok (.getfield 67, 3) := by decide +kernel
theorem dX17_deliver_75 : decode cX17_deliver 75 = .ok (.aload_n 3, 1) := by decide +kernel
theorem dX17_deliver_76 : decode cX17_deliver 76 = .ok (.iload_n 1, 1) := by decide +kernel
theorem dX17_deliver_77 : decode cX17_deliver 77 = .ok (.invokevirtual 237, 3) := by decide +kernel
theorem dX17_deliver_80 : decode cX17_deliver 80 = .ok (.goto 30, 3) := by decide +kernel
theorem dX17_deliver_83 : decode cX17_deliver 83 = .ok (.aload_n 0, 1) := by decide +kernel
theorem dX17_deliver_84 : decode cX17_deliver 84 = .ok (.aload_n 3, 1) := by decide +kernel
theorem dX17_deliver_85 : decode cX17_deliver 85 = .ok (.iload_n 1, 1) := by decide +kernel
theorem dX17_deliver_86 : decode cX17_deliver 86 = .ok (.invokevirtual 241, 3) := by decide +kernel
theorem dX17_deliver_89 : decode cX17_deliver 89 = .ok (.aload_n 0, 1) := by decide +kernel
theorem dX17_deliver_90 : decode cX17_deliver 90 = .ok (.aload_n 2, 1) := by decide +kernel
theorem dX17_deliver_91 : decode cX17_deliver 91 = .ok (.aload_n 3, 1) := by decide +kernel
theorem dX17_deliver_92 : decode cX17_deliver 92 = .ok (.invokevirtual 243, 3) := by decide +kernel
theorem dX17_deliver_95 : decode cX17_deliver 95 = .ok (.ifCond .eq 15, 3) := by decide +kernel
theorem dX17_deliver_98 : decode cX17_deliver 98 = .ok (.aload_n 0, 1) := by decide +kernel
theorem dX17_deliver_99 : decode cX17_deliver 99 = .ok (.iload_n 1, 1) := by decide +kernel
theorem dX17_deliver_100 : decode cX17_deliver 100 = .ok (.aload_n 0, 1) := by decide +kernel
theorem dX17_deliver_101 : decode cX17_deliver 101 = .ok (.getfield 42, 3) := by decide +kernel
theorem dX17_deliver_104 : decode cX17_deliver 104 = .ok (.getfield 247, 3) := by decide +kernel
theorem dX17_deliver_107 : decode cX17_deliver 107 = .ok (.invokevirtual 178, 3) := by decide +kernel
theorem dX17_deliver_110 : decode cX17_deliver 110 = .ok (.return_, 1) := by decide +kernel
def j_X17_deliver_110 (M : MM) : Option (MM) :=
  some M
def f_X17_deliver (x0 x1 x2 : Int) (M : MM) : Option (MM) :=
  (gfi 17 15 x0 M).bind fun v1 =>
  (pfi 17 15 x0 (v1 + 1) M).bind fun M1 =>
  ck 4 x2 M1 <| (f_X4_isWell x2 M1).bind fun v2 =>
  if w32 v2 = 0 then
    (gfi 17 11 x0 M1).bind fun v11 =>
    (pfi 17 11 x0 (v11 + 1) M1).bind fun M7 =>
    some M7
  else
    (gfr 17 0 x0 M1).bind fun v3 =>
    (gfr 6 12 v3 M1).bind fun v4 =>
    ck 4 x2 M1 <| (f_X4_getKey x2 5 v4 M1).bind fun M2 =>
    ck 4 x2 M2 <| (f_X4_type x2 M2).bind fun v5 =>
    (f_X17_isAnswer v5).bind fun v6 =>
    if w32 v6 = 0 then
      ck 4 x2 M2 <| (f_X4_type x2 M2).bind fun v7 =>
      if w32 v7 = w32 15 then
        (gfr 17 5 x0 M2).bind fun v10 =>
        ck 20 v10 M2 <| (f_X20_lose v10 v4 x1 M2).bind fun M5 =>
        j_X17_deliver_110 M5
      else
        ck 17 x0 M2 <| (f_X17_see x0 v4 x1 M2).bind fun M3 =>
        ck 17 x0 M3 <| (f_X17_answers x0 x2 v4 M3).bind fun r1 =>
        if w32 r1.1 = 0 then
          j_X17_deliver_110 r1.2
        else
          (gfr 17 0 x0 r1.2).bind fun v8 =>
          (gfr 6 9 v8 r1.2).bind fun v9 =>
          ck 17 x0 r1.2 <| (f_X17_send x0 x1 v9 r1.2).bind fun M4 =>
          j_X17_deliver_110 M4
    else
      ck 17 x0 M2 <| (f_X17_takeAnswer x0 x1 x2 v4 M2).bind fun M6 =>
      j_X17_deliver_110 M6
theorem s_X17_deliver_110 {g : GG} {d : Nat} (hD : 217 ≤ d) {M : MM} {o : AV × MM} {P : (MM) → Prop} (r0 : ∀ r : MM, P r → o = ((9, 0), r)) {z : MM} (h : j_X17_deliver_110 M = some z) (hz : P z) : Sem g d YX17_deliver 110 [(9, 0), (9, 0), (9, 0), (9, 0)] [] M o := by
  delta j_X17_deliver_110 at h
  obtain rfl := r0 _ (some_P (P := fun r => P r) h hz)
  exact S_return dX17_deliver_110 rfl
theorem s_X17_deliver_0 {g : GG} {d : Nat} (hD : 217 ≤ d) {x0 x1 x2 : Int} {M : MM} {o : AV × MM} {P : (MM) → Prop} (r0 : ∀ r : MM, P r → o = ((9, 0), r)) {z : MM} (h : f_X17_deliver x0 x1 x2 M = some z) (hz : P z) : Sem g d YX17_deliver 0 [(1, x0), (0, x1), (1, x2), (9, 0)] [] M o := by
  delta f_X17_deliver at h
  refine S_aload_n (i := 0) dX17_deliver_0 rfl rfl ?_
  refine S_dup dX17_deliver_1 (Nat.le_of_ble_eq_true rfl) ?_
  refine P_gfi FLX17_212 rfl dX17_deliver_2 h (fun v1 h => ?_)
  refine S_iconst dX17_deliver_5 rfl ?_
  refine S_iadd dX17_deliver_6 ?_
  refine P_pfi FLX17_212 FPX17_212 rfl dX17_deliver_7 h (fun M1 h => ?_)
  refine S_aload_n (i := 2) dX17_deliver_10 rfl rfl ?_
  refine P_invVp 0 [] [] CVX4_isWell MLX17_215 dX17_deliver_11 rfl rfl rfl rfl rfl (by omega) h (fun r h => F_X4_isWell (by omega) h) (fun v2 h => ?_)
  refine P_if_ne (tgt := 28) dX17_deliver_14 rfl h (fun h => ?_) (fun h => ?_)
  · refine S_aload_n (i := 0) dX17_deliver_28 rfl rfl ?_
    refine P_gfr FLX17_42 rfl dX17_deliver_29 h (fun v3 h => ?_)
    refine P_gfr FLX17_222 rfl dX17_deliver_32 h (fun v4 h => ?_)
    refine S_astore_n (i := 3) dX17_deliver_35 rfl (Nat.le_of_ble_eq_true rfl) rfl rfl ?_
    change Sem g d YX17_deliver 36 [(1, x0), (0, x1), (1, x2), (1, v4)] [] M1 o
    refine S_aload_n (i := 2) dX17_deliver_36 rfl rfl ?_
    refine S_iconst dX17_deliver_37 rfl ?_
    refine S_aload_n (i := 3) dX17_deliver_38 rfl rfl ?_
    refine P_invVm' [(0, 5), (1, v4)] [] CVX4_getKey MLX17_225 dX17_deliver_39 rfl rfl rfl rfl (by omega) h (fun r h => F_X4_getKey (by omega) h) (fun M2 h => ?_)
    refine S_aload_n (i := 2) dX17_deliver_42 rfl rfl ?_
    refine P_invVp 0 [] [] CVX4_type MLX17_146 dX17_deliver_43 rfl rfl rfl rfl rfl (by omega) h (fun r h => F_X4_type (by omega) h) (fun v5 h => ?_)
    refine P_invSp 0 [(0, v5)] [] CSX17_isAnswer MLX17_229 dX17_deliver_46 rfl rfl rfl rfl rfl (by omega) h (fun r h => F_X17_isAnswer (by omega) h) (fun v6 h => ?_)
    refine P_if_eq (tgt := 62) dX17_deliver_49 rfl h (fun h => ?_) (fun h => ?_)
    · refine S_aload_n (i := 2) dX17_deliver_62 rfl rfl ?_
      refine P_invVp 0 [] [] CVX4_type MLX17_146 dX17_deliver_63 rfl rfl rfl rfl rfl (by omega) h (fun r h => F_X4_type (by omega) h) (fun v7 h => ?_)
      refine S_bipush (z := 15) dX17_deliver_66 rfl ?_
      refine P_icmp_ne (tgt := 83) dX17_deliver_68 rfl h (fun h => ?_) (fun h => ?_)
      · refine S_aload_n (i := 0) dX17_deliver_83 rfl rfl ?_
        refine S_aload_n (i := 3) dX17_deliver_84 rfl rfl ?_
        refine S_iload_n (i := 1) dX17_deliver_85 rfl rfl ?_
        refine P_invVm' [(1, v4), (0, x1)] [] CVX17_see MLX17_241 dX17_deliver_86 rfl rfl rfl rfl (by omega) h (fun r h => F_X17_see (by omega) h) (fun M3 h => ?_)
        refine S_aload_n (i := 0) dX17_deliver_89 rfl rfl ?_
        refine S_aload_n (i := 2) dX17_deliver_90 rfl rfl ?_
        refine S_aload_n (i := 3) dX17_deliver_91 rfl rfl ?_
        refine P_invVe 0 [(1, x2), (1, v4)] [] CVX17_answers MLX17_243 dX17_deliver_92 rfl rfl rfl rfl rfl (by omega) h (fun r h => F_X17_answers (by omega) h) (fun r1 h => ?_)
        refine P_if_eq (tgt := 110) dX17_deliver_95 rfl h (fun h => ?_) (fun h => ?_)
        · refine S_weak (ls' := [(9, 0), (9, 0), (9, 0), (9, 0)]) ⟨Or.inl rfl, ⟨Or.inl rfl, ⟨Or.inl rfl, ⟨Or.inl rfl, trivial⟩⟩⟩⟩ ?_
          exact s_X17_deliver_110 hD r0 h hz
        · refine S_aload_n (i := 0) dX17_deliver_98 rfl rfl ?_
          refine S_iload_n (i := 1) dX17_deliver_99 rfl rfl ?_
          refine S_aload_n (i := 0) dX17_deliver_100 rfl rfl ?_
          refine P_gfr FLX17_42 rfl dX17_deliver_101 h (fun v8 h => ?_)
          refine P_gfr FLX17_247 rfl dX17_deliver_104 h (fun v9 h => ?_)
          refine P_invVm' [(0, x1), (1, v9)] [] CVX17_send MLX17_178 dX17_deliver_107 rfl rfl rfl rfl (by omega) h (fun r h => F_X17_send (by omega) h) (fun M4 h => ?_)
          refine S_weak (ls' := [(9, 0), (9, 0), (9, 0), (9, 0)]) ⟨Or.inl rfl, ⟨Or.inl rfl, ⟨Or.inl rfl, ⟨Or.inl rfl, trivial⟩⟩⟩⟩ ?_
          exact s_X17_deliver_110 hD r0 h hz
      · refine S_aload_n (i := 0) dX17_deliver_71 rfl rfl ?_
        refine P_gfr FLX17_67 rfl dX17_deliver_72 h (fun v10 h => ?_)
        refine S_aload_n (i := 3) dX17_deliver_75 rfl rfl ?_
        refine S_iload_n (i := 1) dX17_deliver_76 rfl rfl ?_
        refine P_invVm' [(1, v4), (0, x1)] [] CVX20_lose MLX17_237 dX17_deliver_77 rfl rfl rfl rfl (by omega) h (fun r h => F_X20_lose (by omega) h) (fun M5 h => ?_)
        refine S_goto (tgt := 110) dX17_deliver_80 rfl ?_
        refine S_weak (ls' := [(9, 0), (9, 0), (9, 0), (9, 0)]) ⟨Or.inl rfl, ⟨Or.inl rfl, ⟨Or.inl rfl, ⟨Or.inl rfl, trivial⟩⟩⟩⟩ ?_
        exact s_X17_deliver_110 hD r0 h hz
    · refine S_aload_n (i := 0) dX17_deliver_52 rfl rfl ?_
      refine S_iload_n (i := 1) dX17_deliver_53 rfl rfl ?_
      refine S_aload_n (i := 2) dX17_deliver_54 rfl rfl ?_
      refine S_aload_n (i := 3) dX17_deliver_55 rfl rfl ?_
      refine P_invVm' [(0, x1), (1, x2), (1, v4)] [] CVX17_takeAnswer MLX17_233 dX17_deliver_56 rfl rfl rfl rfl (by omega) h (fun r h => F_X17_takeAnswer (by omega) h) (fun M6 h => ?_)
      refine S_goto (tgt := 110) dX17_deliver_59 rfl ?_
      refine S_weak (ls' := [(9, 0), (9, 0), (9, 0), (9, 0)]) ⟨Or.inl rfl, ⟨Or.inl rfl, ⟨Or.inl rfl, ⟨Or.inl rfl, trivial⟩⟩⟩⟩ ?_
      exact s_X17_deliver_110 hD r0 h hz
  · refine S_aload_n (i := 0) dX17_deliver_17 rfl rfl ?_
    refine S_dup dX17_deliver_18 (Nat.le_of_ble_eq_true rfl) ?_
    refine P_gfi FLX17_219 rfl dX17_deliver_19 h (fun v11 h => ?_)
    refine S_iconst dX17_deliver_22 rfl ?_
    refine S_iadd dX17_deliver_23 ?_
    refine P_pfi FLX17_219 FPX17_219 rfl dX17_deliver_24 h (fun M7 h => ?_)
    obtain rfl := r0 _ (some_P (P := fun r => P r) h hz)
    exact S_return dX17_deliver_27 rfl
theorem F_X17_deliver {g : GG} {d : Nat} (hD : 217 ≤ d) {x0 x1 x2 : Int} {M : MM} {r : MM} (h : f_X17_deliver x0 x1 x2 M = some r) : Sem g d YX17_deliver 0 (ini YX17_deliver [(1, x0), (0, x1), (1, x2)]) [] M ((9, 0), r) := by
  change Sem g d YX17_deliver 0 [(1, x0), (0, x1), (1, x2), (9, 0)] [] M ((9, 0), r)
  exact s_X17_deliver_0 hD (P := fun x => x = r) (fun q e => by rw [e]) h rfl
/-! PeerSearch.tick()I -/
theorem dX1_tick_0 : decode cX1_tick 0 = .ok (.iconst 0, 1) := by decide +kernel
theorem dX1_tick_1 : decode cX1_tick 1 = .ok (.istore_n 1, 1) := by decide +kernel
theorem dX1_tick_2 : decode cX1_tick 2 = .ok (.aload_n 0, 1) := by decide +kernel
theorem dX1_tick_3 : decode cX1_tick 3 = .ok (.getfield 78, 3) := by decide +kernel
theorem dX1_tick_6 : decode cX1_tick 6 = .ok (.dup, 1) := by decide +kernel
theorem dX1_tick_7 : decode cX1_tick 7 = .ok (.getfield 295, 3) := by decide +kernel
theorem dX1_tick_10 : decode cX1_tick 10 = .ok (.iconst 1, 1) := by decide +kernel
theorem dX1_tick_11 : decode cX1_tick 11 = .ok (.iadd, 1) := by decide +kernel
theorem dX1_tick_12 : decode cX1_tick 12 = .ok (.putfield 295, 3) := by decide +kernel
theorem dX1_tick_15 : decode cX1_tick 15 = .ok (.aload_n 0, 1) := by decide +kernel
theorem dX1_tick_16 : decode cX1_tick 16 = .ok (.getfield 78, 3) := by decide +kernel
theorem dX1_tick_19 : decode cX1_tick 19 = .ok (.invokevirtual 314, 3) := by decide +kernel
theorem dX1_tick_22 : decode cX1_tick 22 = .ok (.ifCond .eq 57, 3) := by decide +kernel
theorem dX1_tick_25 : decode cX1_tick 25 = .ok (.aload_n 0, 1) := by decide +kernel
theorem dX1_tick_26 : decode cX1_tick 26 = .ok (.getfield 78, 3) := by decide +kernel
theorem dX1_tick_29 : decode cX1_tick 29 = .ok (.invokevirtual 317, 3) := by decide +kernel
theorem dX1_tick_32 : decode cX1_tick 32 = .ok (.astore_n 2, 1) := by decide +kernel
theorem dX1_tick_33 : decode cX1_tick 33 = .ok (.aload_n 0, 1) := by decide +kernel
theorem dX1_tick_34 : decode cX1_tick 34 = .ok (.aload_n 2, 1) := by decide +kernel
theorem dX1_tick_35 : decode cX1_tick 35 = .ok (.getfield 320, 3) := by decide +kernel
theorem dX1_tick_38 : decode cX1_tick 38 = .ok (.invokevirtual 149, 3) := by decide +kernel
theorem dX1_tick_41 : decode cX1_tick 41 = .ok (.ifCond .ne 6, 3) := by decide +kernel
theorem dX1_tick_44 : decode cX1_tick 44 = .ok (.goto (-29), 3) := by decide +kernel
theorem dX1_tick_47 : decode cX1_tick 47 = .ok (.iinc 1 1, 3) := by decide +kernel
theorem dX1_tick_50 : decode cX1_tick 50 = .ok (.aload_n 0, 1) := by decide +kernel
theorem dX1_tick_51 : decode cX1_tick 51 = .ok (.getfield 70, 3) := by decide +kernel
theorem dX1_tick_54 : decode cX1_tick 54 = .ok (.getfield 114, 3) := by decide +kernel
theorem dX1_tick_57 : decode cX1_tick 57 = .ok (.aload_n 2, 1) := by decide +kernel
theorem dX1_tick_58 : decode cX1_tick 58 = .ok (.getfield 320, 3) := by decide +kernel
theorem dX1_tick_61 : decode cX1_tick 61 = .ok (.aaload, 1) := by decide +kernel
theorem dX1_tick_62 : decode cX1_tick 62 = .ok (.aload_n 2, 1) := by decide +kernel
theorem dX1_tick_63 : decode cX1_tick 63 = .ok (.getfield 325, 3) := by decide +kernel
theorem dX1_tick_66 : decode cX1_tick 66 = .ok (.aload_n 0, 1) := by decide +kernel
theorem dX1_tick_67 : decode cX1_tick 67 = .ok (.getfield 78, 3) := by decide +kernel
theorem dX1_tick_70 : decode cX1_tick 70 = .ok (.getfield 327, 3) := by decide +kernel
theorem dX1_tick_73 : decode cX1_tick 73 = .ok (.invokevirtual 330, 3) := by decide +kernel
theorem dX1_tick_76 : decode cX1_tick 76 = .ok (.goto (-61), 3) := by decide +kernel
theorem dX1_tick_79 : decode cX1_tick 79 = .ok (.iconst 0, 1) := by decide +kernel
theorem dX1_tick_80 : decode cX1_tick 80 = .ok (.istore_n 2, 1) := by decide +kernel
theorem dX1_tick_81 : decode cX1_tick 81 = .ok (.iload_n 2, 1) := by decide +kernel
theorem dX1_tick_82 : decode cX1_tick 82 = .ok (.aload_n 0, 1) := by decide +kernel
theorem dX1_tick_83 : decode cX1_tick 83 = .ok (.getfield 70, 3) := by decide +kernel
theorem dX1_tick_86 : decode cX1_tick 86 = .ok (.getfield 127, 3) := by decide +kernel
theorem dX1_tick_89 : decode cX1_tick 89 = .ok (.if_icmp .ge 30, 3) := by decide +kernel
theorem dX1_tick_92 : decode cX1_tick 92 = .ok (.aload_n 0, 1) := by decide +kernel
theorem dX1_tick_93 : decode cX1_tick 93 = .ok (.iload_n 2, 1) := by decide +kernel
theorem dX1_tick_94 : decode cX1_tick 94 = .ok (.invokevirtual 149, 3) := by decide +kernel
theorem dX1_tick_97 : decode cX1_tick 97 = .ok (.ifCond .eq 16, 3) := by decide +kernel
theorem dX1_tick_100 : decode cX1_tick 100 = .ok (.aload_n 0, 1) := by decide +kernel
theorem dX1_tick_101 : decode cX1_tick 101 = .ok (.aload_n 0, 1) := by decide +kernel
theorem dX1_tick_102 : decode cX1_tick 102 = .ok (.getfield 70, 3) := by decide +kernel
theorem dX1_tick_105 : decode cX1_tick 105 = .ok (.getfield 114, 3) := by decide +kernel
theorem dX1_tick_108 : decode cX1_tick 108 = .ok (.iload_n 2, 1) := by decide +kernel
theorem dX1_tick_109 : decode cX1_tick 109 = .ok (.aaload, 1) := by decide +kernel
theorem dX1_tick_110 : decode cX1_tick 110 = .ok (.invokevirtual 333, 3) := by decide +kernel
theorem dX1_tick_113 : decode cX1_tick 113 = .ok (.iinc 2 1, 3) := by decide +kernel
theorem dX1_tick_116 : decode cX1_tick 116 = .ok (.goto (-35), 3) := by decide +kernel
theorem dX1_tick_119 : decode cX1_tick 119 = .ok (.iload_n 1, 1) := by decide +kernel
theorem dX1_tick_120 : decode cX1_tick 120 = .ok (.ireturn, 1) := by decide +kernel
def j_X1_tick_113 (x0 x1 x2 : Int) (M : MM) : Option ((Int × MM) ⊕ (Int × MM)) :=
  cnt (x2 + 1, M)
def b_X1_tick_81 (x0 x1 x2 : Int) (M : MM) : Option ((Int × MM) ⊕ (Int × MM)) :=
  (gfr 1 0 x0 M).bind fun v1 =>
  (gfi 6 6 v1 M).bind fun v2 =>
  if w32 x2 < w32 v2 then
    ck 1 x0 M <| (f_X1_isLive x0 x2 M).bind fun v3 =>
    if w32 v3 = 0 then
      j_X1_tick_113 x0 x1 x2 M
    else
      (gfr 1 0 x0 M).bind fun v4 =>
      (gfr 6 5 v4 M).bind fun v5 =>
      (lar 7 v5 x2 M).bind fun v6 =>
      ck 1 x0 M <| (f_X1_works x0 v6 M).bind fun M1 =>
      j_X1_tick_113 x0 x1 x2 M1
  else
    xit (some (x1, M))
def l_X1_tick_81 (x0 x1 x2 : Int) (M : MM) : Option (Int × MM) := lpN (fun s : Int × MM => b_X1_tick_81 x0 x1 s.1 s.2) FU (x2, M)
def j_X1_tick_79 (x0 x1 : Int) (M : MM) : Option (Int × MM) :=
  l_X1_tick_81 x0 x1 0 M
def b_X1_tick_15 (x0 x1 : Int) (M : MM) : Option ((Int × MM) ⊕ (Int × MM)) :=
  (gfr 1 1 x0 M).bind fun v1 =>
  ck 7 v1 M <| (f_X7_isDue v1 M).bind fun v2 =>
  if w32 v2 = 0 then
    xit (j_X1_tick_79 x0 x1 M)
  else
    (gfr 1 1 x0 M).bind fun v3 =>
    ck 7 v3 M <| (f_X7_take v3 M).bind fun r1 =>
    (gfi 25 1 r1.1 r1.2).bind fun v4 =>
    ck 1 x0 r1.2 <| (f_X1_isLive x0 v4 r1.2).bind fun v5 =>
    if w32 v5 = 0 then
      cnt (x1, r1.2)
    else
      (gfr 1 0 x0 r1.2).bind fun v6 =>
      (gfr 6 5 v6 r1.2).bind fun v7 =>
      (gfi 25 1 r1.1 r1.2).bind fun v8 =>
      (lar 7 v7 v8 r1.2).bind fun v9 =>
      (gfi 25 0 r1.1 r1.2).bind fun v10 =>
      (gfr 1 1 x0 r1.2).bind fun v11 =>
      (gfr 7 5 v11 r1.2).bind fun v12 =>
      ck 17 v9 r1.2 <| (f_X17_deliver v9 v10 v12 r1.2).bind fun M1 =>
      cnt (x1 + 1, M1)
def l_X1_tick_15 (x0 x1 : Int) (M : MM) : Option (Int × MM) := lpN (fun s : Int × MM => b_X1_tick_15 x0 s.1 s.2) FU (x1, M)
def f_X1_tick (x0 : Int) (M : MM) : Option (Int × MM) :=
  (gfr 1 1 x0 M).bind fun v1 =>
  (gfi 7 3 v1 M).bind fun v2 =>
  (pfi 7 3 v1 (v2 + 1) M).bind fun M1 =>
  l_X1_tick_15 x0 0 M1
theorem s_X1_tick_113 {g : GG} {d : Nat} (hD : 219 ≤ d) {x0 x1 x2 : Int} {M : MM} {o : AV × MM} {P : ((Int × MM) ⊕ (Int × MM)) → Prop} (c0 : ∀ s : Int × MM, P (.inl s) → Sem g d YX1_tick 81 [(1, x0), (0, x1), (0, s.1)] [] s.2 o) (r0 : ∀ r : Int × MM, P (.inr r) → o = ((0, r.1), r.2)) {z : (Int × MM) ⊕ (Int × MM)} (h : j_X1_tick_113 x0 x1 x2 M = some z) (hz : P z) : Sem g d YX1_tick 113 [(1, x0), (0, x1), (0, x2)] [] M o := by
  delta j_X1_tick_113 at h
  refine S_iinc dX1_tick_113 rfl rfl rfl ?_
  change Sem g d YX1_tick 116 [(1, x0), (0, x1), (0, x2 + 1)] [] M o
  refine S_goto (tgt := 81) dX1_tick_116 rfl ?_
  exact c0 (x2 + 1, M) (some_P (P := fun r => P r) h hz)
theorem s_X1_tick_81 {g : GG} {d : Nat} (hD : 219 ≤ d) {x0 x1 x2 : Int} {M : MM} {o : AV × MM} {P : ((Int × MM) ⊕ (Int × MM)) → Prop} (c0 : ∀ s : Int × MM, P (.inl s) → Sem g d YX1_tick 81 [(1, x0), (0, x1), (0, s.1)] [] s.2 o) (r0 : ∀ r : Int × MM, P (.inr r) → o = ((0, r.1), r.2)) {z : (Int × MM) ⊕ (Int × MM)} (h : b_X1_tick_81 x0 x1 x2 M = some z) (hz : P z) : Sem g d YX1_tick 81 [(1, x0), (0, x1), (0, x2)] [] M o := by
  delta b_X1_tick_81 at h
  refine S_iload_n (i := 2) dX1_tick_81 rfl rfl ?_
  refine S_aload_n (i := 0) dX1_tick_82 rfl rfl ?_
  refine P_gfr FLX1_70 rfl dX1_tick_83 h (fun v1 h => ?_)
  refine P_gfi FLX1_127 rfl dX1_tick_86 h (fun v2 h => ?_)
  refine P_icmp_ge (tgt := 119) dX1_tick_89 rfl h (fun h => ?_) (fun h => ?_)
  · obtain ⟨z0, h, hz⟩ := xit_some' (P := fun r => P r) h hz
    refine S_iload_n (i := 1) dX1_tick_119 rfl rfl ?_
    obtain rfl := r0 _ (some_P (P := fun r => P (.inr r)) h hz)
    exact P_ret dX1_tick_120 rfl (Or.inl rfl)
  · refine S_aload_n (i := 0) dX1_tick_92 rfl rfl ?_
    refine S_iload_n (i := 2) dX1_tick_93 rfl rfl ?_
    refine P_invVp 0 [(0, x2)] [] CVX1_isLive MLX1_149 dX1_tick_94 rfl rfl rfl rfl rfl (by omega) h (fun r h => F_X1_isLive (by omega) h) (fun v3 h => ?_)
    refine P_if_eq (tgt := 113) dX1_tick_97 rfl h (fun h => ?_) (fun h => ?_)
    · exact s_X1_tick_113 hD c0 r0 h hz
    · refine S_aload_n (i := 0) dX1_tick_100 rfl rfl ?_
      refine S_aload_n (i := 0) dX1_tick_101 rfl rfl ?_
      refine P_gfr FLX1_70 rfl dX1_tick_102 h (fun v4 h => ?_)
      refine P_gfr FLX1_114 rfl dX1_tick_105 h (fun v5 h => ?_)
      refine S_iload_n (i := 2) dX1_tick_108 rfl rfl ?_
      refine P_lar (t := 7) ⟨by decide, by decide⟩ dX1_tick_109 h (fun v6 h => ?_)
      refine P_invVm' [(1, v6)] [] CVX1_works MLX1_333 dX1_tick_110 rfl rfl rfl rfl (by omega) h (fun r h => F_X1_works (by omega) h) (fun M1 h => ?_)
      exact s_X1_tick_113 hD c0 r0 h hz
theorem sl_X1_tick_81 {g : GG} {d : Nat} (hD : 219 ≤ d) {x0 x1 x2 : Int} {M : MM} {o : AV × MM} {P : (Int × MM) → Prop} (r0 : ∀ r : Int × MM, P r → o = ((0, r.1), r.2)) {z : Int × MM} (h : l_X1_tick_81 x0 x1 x2 M = some z) (hz : P z) : Sem g d YX1_tick 81 [(1, x0), (0, x1), (0, x2)] [] M o := by
  refine lp_sound (S := fun s : Int × MM => Sem g d YX1_tick 81 [(1, x0), (0, x1), (0, s.1)] [] s.2 o) (P := P) ?_ FU (x2, M) z h hz
  intro s x hx hP
  exact s_X1_tick_81 hD (P := Sum.elim (fun s : Int × MM => Sem g d YX1_tick 81 [(1, x0), (0, x1), (0, s.1)] [] s.2 o) P) (fun s h => h) (fun s h => r0 s h) hx hP
theorem s_X1_tick_79 {g : GG} {d : Nat} (hD : 219 ≤ d) {x0 x1 : Int} {M : MM} {o : AV × MM} {P : (Int × MM) → Prop} (r0 : ∀ r : Int × MM, P r → o = ((0, r.1), r.2)) {z : Int × MM} (h : j_X1_tick_79 x0 x1 M = some z) (hz : P z) : Sem g d YX1_tick 79 [(1, x0), (0, x1), (9, 0)] [] M o := by
  delta j_X1_tick_79 at h
  refine S_iconst dX1_tick_79 rfl ?_
  refine S_istore_n (i := 2) dX1_tick_80 rfl (Nat.le_of_ble_eq_true rfl) rfl rfl ?_
  change Sem g d YX1_tick 81 [(1, x0), (0, x1), (0, 0)] [] M o
  exact sl_X1_tick_81 hD r0 h hz
theorem s_X1_tick_15 {g : GG} {d : Nat} (hD : 219 ≤ d) {x0 x1 : Int} {M : MM} {o : AV × MM} {P : ((Int × MM) ⊕ (Int × MM)) → Prop} (c0 : ∀ s : Int × MM, P (.inl s) → Sem g d YX1_tick 15 [(1, x0), (0, s.1), (9, 0)] [] s.2 o) (r0 : ∀ r : Int × MM, P (.inr r) → o = ((0, r.1), r.2)) {z : (Int × MM) ⊕ (Int × MM)} (h : b_X1_tick_15 x0 x1 M = some z) (hz : P z) : Sem g d YX1_tick 15 [(1, x0), (0, x1), (9, 0)] [] M o := by
  delta b_X1_tick_15 at h
  refine S_aload_n (i := 0) dX1_tick_15 rfl rfl ?_
  refine P_gfr FLX1_78 rfl dX1_tick_16 h (fun v1 h => ?_)
  refine P_invVp 0 [] [] CVX7_isDue MLX1_314 dX1_tick_19 rfl rfl rfl rfl rfl (by omega) h (fun r h => F_X7_isDue (by omega) h) (fun v2 h => ?_)
  refine P_if_eq (tgt := 79) dX1_tick_22 rfl h (fun h => ?_) (fun h => ?_)
  · obtain ⟨z0, h, hz⟩ := xit_some' (P := fun r => P r) h hz
    exact s_X1_tick_79 hD (P := fun r => P (.inr r)) r0 h hz
  · refine S_aload_n (i := 0) dX1_tick_25 rfl rfl ?_
    refine P_gfr FLX1_78 rfl dX1_tick_26 h (fun v3 h => ?_)
    refine P_invVe 1 [] [] CVX7_take MLX1_317 dX1_tick_29 rfl rfl rfl rfl rfl (by omega) h (fun r h => F_X7_take (by omega) h) (fun r1 h => ?_)
    refine S_astore_n (i := 2) dX1_tick_32 rfl (Nat.le_of_ble_eq_true rfl) rfl rfl ?_
    change Sem g d YX1_tick 33 [(1, x0), (0, x1), (1, r1.1)] [] r1.2 o
    refine S_aload_n (i := 0) dX1_tick_33 rfl rfl ?_
    refine S_aload_n (i := 2) dX1_tick_34 rfl rfl ?_
    refine P_gfi FLX1_320 rfl dX1_tick_35 h (fun v4 h => ?_)
    refine P_invVp 0 [(0, v4)] [] CVX1_isLive MLX1_149 dX1_tick_38 rfl rfl rfl rfl rfl (by omega) h (fun r h => F_X1_isLive (by omega) h) (fun v5 h => ?_)
    refine P_if_ne (tgt := 47) dX1_tick_41 rfl h (fun h => ?_) (fun h => ?_)
    · refine S_iinc dX1_tick_47 rfl rfl rfl ?_
      change Sem g d YX1_tick 50 [(1, x0), (0, x1 + 1), (1, r1.1)] [] r1.2 o
      refine S_aload_n (i := 0) dX1_tick_50 rfl rfl ?_
      refine P_gfr FLX1_70 rfl dX1_tick_51 h (fun v6 h => ?_)
      refine P_gfr FLX1_114 rfl dX1_tick_54 h (fun v7 h => ?_)
      refine S_aload_n (i := 2) dX1_tick_57 rfl rfl ?_
      refine P_gfi FLX1_320 rfl dX1_tick_58 h (fun v8 h => ?_)
      refine P_lar (t := 7) ⟨by decide, by decide⟩ dX1_tick_61 h (fun v9 h => ?_)
      refine S_aload_n (i := 2) dX1_tick_62 rfl rfl ?_
      refine P_gfi FLX1_325 rfl dX1_tick_63 h (fun v10 h => ?_)
      refine S_aload_n (i := 0) dX1_tick_66 rfl rfl ?_
      refine P_gfr FLX1_78 rfl dX1_tick_67 h (fun v11 h => ?_)
      refine P_gfr FLX1_327 rfl dX1_tick_70 h (fun v12 h => ?_)
      refine P_invVm' [(0, v10), (1, v12)] [] CVX17_deliver MLX1_330 dX1_tick_73 rfl rfl rfl rfl (by omega) h (fun r h => F_X17_deliver (by omega) h) (fun M1 h => ?_)
      refine S_goto (tgt := 15) dX1_tick_76 rfl ?_
      refine S_weak (ls' := [(1, x0), (0, x1 + 1), (9, 0)]) ⟨Or.inr rfl, ⟨Or.inr rfl, ⟨Or.inl rfl, trivial⟩⟩⟩ ?_
      exact c0 (x1 + 1, M1) (some_P (P := fun r => P r) h hz)
    · refine S_goto (tgt := 15) dX1_tick_44 rfl ?_
      refine S_weak (ls' := [(1, x0), (0, x1), (9, 0)]) ⟨Or.inr rfl, ⟨Or.inr rfl, ⟨Or.inl rfl, trivial⟩⟩⟩ ?_
      exact c0 (x1, r1.2) (some_P (P := fun r => P r) h hz)
theorem sl_X1_tick_15 {g : GG} {d : Nat} (hD : 219 ≤ d) {x0 x1 : Int} {M : MM} {o : AV × MM} {P : (Int × MM) → Prop} (r0 : ∀ r : Int × MM, P r → o = ((0, r.1), r.2)) {z : Int × MM} (h : l_X1_tick_15 x0 x1 M = some z) (hz : P z) : Sem g d YX1_tick 15 [(1, x0), (0, x1), (9, 0)] [] M o := by
  refine lp_sound (S := fun s : Int × MM => Sem g d YX1_tick 15 [(1, x0), (0, s.1), (9, 0)] [] s.2 o) (P := P) ?_ FU (x1, M) z h hz
  intro s x hx hP
  exact s_X1_tick_15 hD (P := Sum.elim (fun s : Int × MM => Sem g d YX1_tick 15 [(1, x0), (0, s.1), (9, 0)] [] s.2 o) P) (fun s h => h) (fun s h => r0 s h) hx hP
theorem s_X1_tick_0 {g : GG} {d : Nat} (hD : 219 ≤ d) {x0 : Int} {M : MM} {o : AV × MM} {P : (Int × MM) → Prop} (r0 : ∀ r : Int × MM, P r → o = ((0, r.1), r.2)) {z : Int × MM} (h : f_X1_tick x0 M = some z) (hz : P z) : Sem g d YX1_tick 0 [(1, x0), (9, 0), (9, 0)] [] M o := by
  delta f_X1_tick at h
  refine S_iconst dX1_tick_0 rfl ?_
  refine S_istore_n (i := 1) dX1_tick_1 rfl (Nat.le_of_ble_eq_true rfl) rfl rfl ?_
  change Sem g d YX1_tick 2 [(1, x0), (0, 0), (9, 0)] [] M o
  refine S_aload_n (i := 0) dX1_tick_2 rfl rfl ?_
  refine P_gfr FLX1_78 rfl dX1_tick_3 h (fun v1 h => ?_)
  refine S_dup dX1_tick_6 (Nat.le_of_ble_eq_true rfl) ?_
  refine P_gfi FLX1_295 rfl dX1_tick_7 h (fun v2 h => ?_)
  refine S_iconst dX1_tick_10 rfl ?_
  refine S_iadd dX1_tick_11 ?_
  refine P_pfi FLX1_295 FPX1_295 rfl dX1_tick_12 h (fun M1 h => ?_)
  exact sl_X1_tick_15 hD r0 h hz
theorem F_X1_tick {g : GG} {d : Nat} (hD : 219 ≤ d) {x0 : Int} {M : MM} {r : Int × MM} (h : f_X1_tick x0 M = some r) : Sem g d YX1_tick 0 (ini YX1_tick [(1, x0)]) [] M ((0, r.1), r.2) := by
  change Sem g d YX1_tick 0 [(1, x0), (9, 0), (9, 0)] [] M ((0, r.1), r.2)
  exact s_X1_tick_0 hD (P := fun x => x = r) (fun q e => by rw [e]) h rfl
/-! PeerSearch.rest(I)I -/
theorem dX1_rest_0 : decode cX1_rest 0 = .ok (.iload_n 1, 1) := by decide +kernel
theorem dX1_rest_1 : decode cX1_rest 1 = .ok (.ifCond .lt 10, 3) := by decide +kernel
theorem dX1_rest_4 : decode cX1_rest 4 = .ok (.iload_n 1, 1) := by decide +kernel
theorem dX1_rest_5 : decode cX1_rest 5 = .ok (.sipush 1000, 3) := by decide +kernel
theorem dX1_rest_8 : decode cX1_rest 8 = .ok (.if_icmp .le 5, 3) := by decide +kernel
theorem dX1_rest_11 : decode cX1_rest 11 = .ok (.iconst (-1), 1) := by decide +kernel
theorem dX1_rest_12 : decode cX1_rest 12 = .ok (.ireturn, 1) := by decide +kernel
theorem dX1_rest_13 : decode cX1_rest 13 = .ok (.iconst 0, 1) := by decide +kernel
theorem dX1_rest_14 : decode cX1_rest 14 = .ok (.istore_n 2, 1) := by decide +kernel
theorem dX1_rest_15 : decode cX1_rest 15 = .ok (.iload_n 2, 1) := by decide +kernel
theorem dX1_rest_16 : decode cX1_rest 16 = .ok (.iload_n 1, 1) := by decide +kernel
theorem dX1_rest_17 : decode cX1_rest 17 = .ok (.if_icmp .ge 21, 3) := by decide +kernel
theorem dX1_rest_20 : decode cX1_rest 20 = .ok (.aload_n 0, 1) := by decide +kernel
theorem dX1_rest_21 : decode cX1_rest 21 = .ok (.invokevirtual 343, 3) := by decide +kernel
theorem dX1_rest_24 : decode cX1_rest 24 = .ok (.ifCond .eq 14, 3) := by decide +kernel
theorem dX1_rest_27 : decode cX1_rest 27 = .ok (.aload_n 0, 1) := by decide +kernel
theorem dX1_rest_28 : decode cX1_rest 28 = .ok (.invokevirtual 336, 3) := by decide +kernel
theorem dX1_rest_31 : decode cX1_rest 31 = .ok (.istore_n 3, 1) := by decide +kernel
theorem dX1_rest_32 : decode cX1_rest 32 = .ok (.iinc 2 1, 3) := by decide +kernel
theorem dX1_rest_35 : decode cX1_rest 35 = .ok (.goto (-20), 3) := by decide +kernel
theorem dX1_rest_38 : decode cX1_rest 38 = .ok (.iload_n 2, 1) := by decide +kernel
theorem dX1_rest_39 : decode cX1_rest 39 = .ok (.ireturn, 1) := by decide +kernel
def j_X1_rest_38 (x2 : Int) (M : MM) : Option (Int × MM) :=
  some (x2, M)
def b_X1_rest_15 (x0 x1 x2 : Int) (M : MM) : Option ((Int × MM) ⊕ (Int × MM)) :=
  if w32 x2 < w32 x1 then
    ck 1 x0 M <| (f_X1_isBusy x0 M).bind fun v1 =>
    if w32 v1 = 0 then
      xit (j_X1_rest_38 x2 M)
    else
      ck 1 x0 M <| (f_X1_tick x0 M).bind fun r1 =>
      cnt (x2 + 1, r1.2)
  else
    xit (j_X1_rest_38 x2 M)
def l_X1_rest_15 (x0 x1 x2 : Int) (M : MM) : Option (Int × MM) := lpN (fun s : Int × MM => b_X1_rest_15 x0 x1 s.1 s.2) FU (x2, M)
def j_X1_rest_11 (M : MM) : Option (Int × MM) :=
  some ((-1), M)
def f_X1_rest (x0 x1 : Int) (M : MM) : Option (Int × MM) :=
  if w32 x1 < 0 then
    j_X1_rest_11 M
  else
    if w32 1000 < w32 x1 then
      j_X1_rest_11 M
    else
      l_X1_rest_15 x0 x1 0 M
theorem s_X1_rest_38 {g : GG} {d : Nat} (hD : 220 ≤ d) {x2 : Int} {M : MM} {o : AV × MM} {P : (Int × MM) → Prop} (r0 : ∀ r : Int × MM, P r → o = ((0, r.1), r.2)) {z : Int × MM} (h : j_X1_rest_38 x2 M = some z) (hz : P z) : Sem g d YX1_rest 38 [(9, 0), (9, 0), (0, x2), (9, 0)] [] M o := by
  delta j_X1_rest_38 at h
  refine S_iload_n (i := 2) dX1_rest_38 rfl rfl ?_
  obtain rfl := r0 _ (some_P (P := fun r => P r) h hz)
  exact P_ret dX1_rest_39 rfl (Or.inl rfl)
theorem s_X1_rest_15 {g : GG} {d : Nat} (hD : 220 ≤ d) {x0 x1 x2 : Int} {M : MM} {o : AV × MM} {P : ((Int × MM) ⊕ (Int × MM)) → Prop} (c0 : ∀ s : Int × MM, P (.inl s) → Sem g d YX1_rest 15 [(1, x0), (0, x1), (0, s.1), (9, 0)] [] s.2 o) (r0 : ∀ r : Int × MM, P (.inr r) → o = ((0, r.1), r.2)) {z : (Int × MM) ⊕ (Int × MM)} (h : b_X1_rest_15 x0 x1 x2 M = some z) (hz : P z) : Sem g d YX1_rest 15 [(1, x0), (0, x1), (0, x2), (9, 0)] [] M o := by
  delta b_X1_rest_15 at h
  refine S_iload_n (i := 2) dX1_rest_15 rfl rfl ?_
  refine S_iload_n (i := 1) dX1_rest_16 rfl rfl ?_
  refine P_icmp_ge (tgt := 38) dX1_rest_17 rfl h (fun h => ?_) (fun h => ?_)
  · refine S_weak (ls' := [(9, 0), (9, 0), (0, x2), (9, 0)]) ⟨Or.inl rfl, ⟨Or.inl rfl, ⟨Or.inr rfl, ⟨Or.inl rfl, trivial⟩⟩⟩⟩ ?_
    obtain ⟨z0, h, hz⟩ := xit_some' (P := fun r => P r) h hz
    exact s_X1_rest_38 hD (P := fun r => P (.inr r)) r0 h hz
  · refine S_aload_n (i := 0) dX1_rest_20 rfl rfl ?_
    refine P_invVp 0 [] [] CVX1_isBusy MLX1_343 dX1_rest_21 rfl rfl rfl rfl rfl (by omega) h (fun r h => F_X1_isBusy (by omega) h) (fun v1 h => ?_)
    refine P_if_eq (tgt := 38) dX1_rest_24 rfl h (fun h => ?_) (fun h => ?_)
    · refine S_weak (ls' := [(9, 0), (9, 0), (0, x2), (9, 0)]) ⟨Or.inl rfl, ⟨Or.inl rfl, ⟨Or.inr rfl, ⟨Or.inl rfl, trivial⟩⟩⟩⟩ ?_
      obtain ⟨z0, h, hz⟩ := xit_some' (P := fun r => P r) h hz
      exact s_X1_rest_38 hD (P := fun r => P (.inr r)) r0 h hz
    · refine S_aload_n (i := 0) dX1_rest_27 rfl rfl ?_
      refine P_invVe 0 [] [] CVX1_tick MLX1_336 dX1_rest_28 rfl rfl rfl rfl rfl (by omega) h (fun r h => F_X1_tick (by omega) h) (fun r1 h => ?_)
      refine S_istore_n (i := 3) dX1_rest_31 rfl (Nat.le_of_ble_eq_true rfl) rfl rfl ?_
      change Sem g d YX1_rest 32 [(1, x0), (0, x1), (0, x2), (0, r1.1)] [] r1.2 o
      refine S_iinc dX1_rest_32 rfl rfl rfl ?_
      change Sem g d YX1_rest 35 [(1, x0), (0, x1), (0, x2 + 1), (0, r1.1)] [] r1.2 o
      refine S_goto (tgt := 15) dX1_rest_35 rfl ?_
      refine S_weak (ls' := [(1, x0), (0, x1), (0, x2 + 1), (9, 0)]) ⟨Or.inr rfl, ⟨Or.inr rfl, ⟨Or.inr rfl, ⟨Or.inl rfl, trivial⟩⟩⟩⟩ ?_
      exact c0 (x2 + 1, r1.2) (some_P (P := fun r => P r) h hz)
theorem sl_X1_rest_15 {g : GG} {d : Nat} (hD : 220 ≤ d) {x0 x1 x2 : Int} {M : MM} {o : AV × MM} {P : (Int × MM) → Prop} (r0 : ∀ r : Int × MM, P r → o = ((0, r.1), r.2)) {z : Int × MM} (h : l_X1_rest_15 x0 x1 x2 M = some z) (hz : P z) : Sem g d YX1_rest 15 [(1, x0), (0, x1), (0, x2), (9, 0)] [] M o := by
  refine lp_sound (S := fun s : Int × MM => Sem g d YX1_rest 15 [(1, x0), (0, x1), (0, s.1), (9, 0)] [] s.2 o) (P := P) ?_ FU (x2, M) z h hz
  intro s x hx hP
  exact s_X1_rest_15 hD (P := Sum.elim (fun s : Int × MM => Sem g d YX1_rest 15 [(1, x0), (0, x1), (0, s.1), (9, 0)] [] s.2 o) P) (fun s h => h) (fun s h => r0 s h) hx hP
theorem s_X1_rest_11 {g : GG} {d : Nat} (hD : 220 ≤ d) {M : MM} {o : AV × MM} {P : (Int × MM) → Prop} (r0 : ∀ r : Int × MM, P r → o = ((0, r.1), r.2)) {z : Int × MM} (h : j_X1_rest_11 M = some z) (hz : P z) : Sem g d YX1_rest 11 [(9, 0), (9, 0), (9, 0), (9, 0)] [] M o := by
  delta j_X1_rest_11 at h
  refine S_iconst dX1_rest_11 rfl ?_
  obtain rfl := r0 _ (some_P (P := fun r => P r) h hz)
  exact P_ret dX1_rest_12 rfl (Or.inl rfl)
theorem s_X1_rest_0 {g : GG} {d : Nat} (hD : 220 ≤ d) {x0 x1 : Int} {M : MM} {o : AV × MM} {P : (Int × MM) → Prop} (r0 : ∀ r : Int × MM, P r → o = ((0, r.1), r.2)) {z : Int × MM} (h : f_X1_rest x0 x1 M = some z) (hz : P z) : Sem g d YX1_rest 0 [(1, x0), (0, x1), (9, 0), (9, 0)] [] M o := by
  delta f_X1_rest at h
  refine S_iload_n (i := 1) dX1_rest_0 rfl rfl ?_
  refine P_if_lt (tgt := 11) dX1_rest_1 rfl h (fun h => ?_) (fun h => ?_)
  · refine S_weak (ls' := [(9, 0), (9, 0), (9, 0), (9, 0)]) ⟨Or.inl rfl, ⟨Or.inl rfl, ⟨Or.inl rfl, ⟨Or.inl rfl, trivial⟩⟩⟩⟩ ?_
    exact s_X1_rest_11 hD r0 h hz
  · refine S_iload_n (i := 1) dX1_rest_4 rfl rfl ?_
    refine S_sipush (z := 1000) dX1_rest_5 rfl ?_
    refine P_icmp_le (tgt := 13) dX1_rest_8 rfl h (fun h => ?_) (fun h => ?_)
    · refine S_iconst dX1_rest_13 rfl ?_
      refine S_istore_n (i := 2) dX1_rest_14 rfl (Nat.le_of_ble_eq_true rfl) rfl rfl ?_
      change Sem g d YX1_rest 15 [(1, x0), (0, x1), (0, 0), (9, 0)] [] M o
      exact sl_X1_rest_15 hD r0 h hz
    · refine S_weak (ls' := [(9, 0), (9, 0), (9, 0), (9, 0)]) ⟨Or.inl rfl, ⟨Or.inl rfl, ⟨Or.inl rfl, ⟨Or.inl rfl, trivial⟩⟩⟩⟩ ?_
      exact s_X1_rest_11 hD r0 h hz
theorem F_X1_rest {g : GG} {d : Nat} (hD : 220 ≤ d) {x0 x1 : Int} {M : MM} {r : Int × MM} (h : f_X1_rest x0 x1 M = some r) : Sem g d YX1_rest 0 (ini YX1_rest [(1, x0), (0, x1)]) [] M ((0, r.1), r.2) := by
  change Sem g d YX1_rest 0 [(1, x0), (0, x1), (9, 0), (9, 0)] [] M ((0, r.1), r.2)
  exact s_X1_rest_0 hD (P := fun x => x = r) (fun q e => by rw [e]) h rfl
/-! PeerSearch.run(I)I -/
theorem dX1_run_0 : decode cX1_run 0 = .ok (.iload_n 1, 1) := by decide +kernel
theorem dX1_run_1 : decode cX1_run 1 = .ok (.ifCond .lt 10, 3) := by decide +kernel
theorem dX1_run_4 : decode cX1_run 4 = .ok (.iload_n 1, 1) := by decide +kernel
theorem dX1_run_5 : decode cX1_run 5 = .ok (.sipush 1000, 3) := by decide +kernel
theorem dX1_run_8 : decode cX1_run 8 = .ok (.if_icmp .le 5, 3) := by decide +kernel
theorem dX1_run_11 : decode cX1_run 11 = .ok (.iconst (-1), 1) := by decide +kernel
theorem dX1_run_12 : decode cX1_run 12 = .ok (.ireturn, 1) := by decide +kernel
theorem dX1_run_13 : decode cX1_run 13 = .ok (.iconst 0, 1) := by decide +kernel
theorem dX1_run_14 : decode cX1_run 14 = .ok (.istore_n 2, 1) := by decide +kernel
theorem dX1_run_15 : decode cX1_run 15 = .ok (.iconst 0, 1) := by decide +kernel
theorem dX1_run_16 : decode cX1_run 16 = .ok (.istore_n 3, 1) := by decide +kernel
theorem dX1_run_17 : decode cX1_run 17 = .ok (.iload_n 3, 1) := by decide +kernel
theorem dX1_run_18 : decode cX1_run 18 = .ok (.iload_n 1, 1) := by decide +kernel
theorem dX1_run_19 : decode cX1_run 19 = .ok (.if_icmp .ge 16, 3) := by decide +kernel
theorem dX1_run_22 : decode cX1_run 22 = .ok (.iload_n 2, 1) := by decide +kernel
theorem dX1_run_23 : decode cX1_run 23 = .ok (.aload_n 0, 1) := by decide +kernel
theorem dX1_run_24 : decode cX1_run 24 = .ok (.invokevirtual 336, 3) := by decide +kernel
theorem dX1_run_27 : decode cX1_run 27 = .ok (.iadd, 1) := by decide +kernel
theorem dX1_run_28 : decode cX1_run 28 = .ok (.istore_n 2, 1) := by decide +kernel
theorem dX1_run_29 : decode cX1_run 29 = .ok (.iinc 3 1, 3) := by decide +kernel
theorem dX1_run_32 : decode cX1_run 32 = .ok (.goto (-15), 3) := by decide +kernel
theorem dX1_run_35 : decode cX1_run 35 = .ok (.iload_n 2, 1) := by decide +kernel
theorem dX1_run_36 : decode cX1_run 36 = .ok (.ireturn, 1) := by decide +kernel
def b_X1_run_17 (x0 x1 x2 x3 : Int) (M : MM) : Option ((Int × Int × MM) ⊕ (Int × MM)) :=
  if w32 x3 < w32 x1 then
    ck 1 x0 M <| (f_X1_tick x0 M).bind fun r1 =>
    cnt (x2 + r1.1, x3 + 1, r1.2)
  else
    xit (some (x2, M))
def l_X1_run_17 (x0 x1 x2 x3 : Int) (M : MM) : Option (Int × MM) := lpN (fun s : Int × Int × MM => b_X1_run_17 x0 x1 s.1 s.2.1 s.2.2) FU (x2, x3, M)
def j_X1_run_11 (M : MM) : Option (Int × MM) :=
  some ((-1), M)
def f_X1_run (x0 x1 : Int) (M : MM) : Option (Int × MM) :=
  if w32 x1 < 0 then
    j_X1_run_11 M
  else
    if w32 1000 < w32 x1 then
      j_X1_run_11 M
    else
      l_X1_run_17 x0 x1 0 0 M
theorem s_X1_run_17 {g : GG} {d : Nat} (hD : 220 ≤ d) {x0 x1 x2 x3 : Int} {M : MM} {o : AV × MM} {P : ((Int × Int × MM) ⊕ (Int × MM)) → Prop} (c0 : ∀ s : Int × Int × MM, P (.inl s) → Sem g d YX1_run 17 [(1, x0), (0, x1), (0, s.1), (0, s.2.1)] [] s.2.2 o) (r0 : ∀ r : Int × MM, P (.inr r) → o = ((0, r.1), r.2)) {z : (Int × Int × MM) ⊕ (Int × MM)} (h : b_X1_run_17 x0 x1 x2 x3 M = some z) (hz : P z) : Sem g d YX1_run 17 [(1, x0), (0, x1), (0, x2), (0, x3)] [] M o := by
  delta b_X1_run_17 at h
  refine S_iload_n (i := 3) dX1_run_17 rfl rfl ?_
  refine S_iload_n (i := 1) dX1_run_18 rfl rfl ?_
  refine P_icmp_ge (tgt := 35) dX1_run_19 rfl h (fun h => ?_) (fun h => ?_)
  · obtain ⟨z0, h, hz⟩ := xit_some' (P := fun r => P r) h hz
    refine S_iload_n (i := 2) dX1_run_35 rfl rfl ?_
    obtain rfl := r0 _ (some_P (P := fun r => P (.inr r)) h hz)
    exact P_ret dX1_run_36 rfl (Or.inl rfl)
  · refine S_iload_n (i := 2) dX1_run_22 rfl rfl ?_
    refine S_aload_n (i := 0) dX1_run_23 rfl rfl ?_
    refine P_invVe 0 [] [(0, x2)] CVX1_tick MLX1_336 dX1_run_24 rfl rfl rfl rfl rfl (by omega) h (fun r h => F_X1_tick (by omega) h) (fun r1 h => ?_)
    refine S_iadd dX1_run_27 ?_
    refine S_istore_n (i := 2) dX1_run_28 rfl (Nat.le_of_ble_eq_true rfl) rfl rfl ?_
    change Sem g d YX1_run 29 [(1, x0), (0, x1), (0, x2 + r1.1), (0, x3)] [] r1.2 o
    refine S_iinc dX1_run_29 rfl rfl rfl ?_
    change Sem g d YX1_run 32 [(1, x0), (0, x1), (0, x2 + r1.1), (0, x3 + 1)] [] r1.2 o
    refine S_goto (tgt := 17) dX1_run_32 rfl ?_
    exact c0 (x2 + r1.1, x3 + 1, r1.2) (some_P (P := fun r => P r) h hz)
theorem sl_X1_run_17 {g : GG} {d : Nat} (hD : 220 ≤ d) {x0 x1 x2 x3 : Int} {M : MM} {o : AV × MM} {P : (Int × MM) → Prop} (r0 : ∀ r : Int × MM, P r → o = ((0, r.1), r.2)) {z : Int × MM} (h : l_X1_run_17 x0 x1 x2 x3 M = some z) (hz : P z) : Sem g d YX1_run 17 [(1, x0), (0, x1), (0, x2), (0, x3)] [] M o := by
  refine lp_sound (S := fun s : Int × Int × MM => Sem g d YX1_run 17 [(1, x0), (0, x1), (0, s.1), (0, s.2.1)] [] s.2.2 o) (P := P) ?_ FU (x2, x3, M) z h hz
  intro s x hx hP
  exact s_X1_run_17 hD (P := Sum.elim (fun s : Int × Int × MM => Sem g d YX1_run 17 [(1, x0), (0, x1), (0, s.1), (0, s.2.1)] [] s.2.2 o) P) (fun s h => h) (fun s h => r0 s h) hx hP
theorem s_X1_run_11 {g : GG} {d : Nat} (hD : 220 ≤ d) {M : MM} {o : AV × MM} {P : (Int × MM) → Prop} (r0 : ∀ r : Int × MM, P r → o = ((0, r.1), r.2)) {z : Int × MM} (h : j_X1_run_11 M = some z) (hz : P z) : Sem g d YX1_run 11 [(9, 0), (9, 0), (9, 0), (9, 0)] [] M o := by
  delta j_X1_run_11 at h
  refine S_iconst dX1_run_11 rfl ?_
  obtain rfl := r0 _ (some_P (P := fun r => P r) h hz)
  exact P_ret dX1_run_12 rfl (Or.inl rfl)
theorem s_X1_run_0 {g : GG} {d : Nat} (hD : 220 ≤ d) {x0 x1 : Int} {M : MM} {o : AV × MM} {P : (Int × MM) → Prop} (r0 : ∀ r : Int × MM, P r → o = ((0, r.1), r.2)) {z : Int × MM} (h : f_X1_run x0 x1 M = some z) (hz : P z) : Sem g d YX1_run 0 [(1, x0), (0, x1), (9, 0), (9, 0)] [] M o := by
  delta f_X1_run at h
  refine S_iload_n (i := 1) dX1_run_0 rfl rfl ?_
  refine P_if_lt (tgt := 11) dX1_run_1 rfl h (fun h => ?_) (fun h => ?_)
  · refine S_weak (ls' := [(9, 0), (9, 0), (9, 0), (9, 0)]) ⟨Or.inl rfl, ⟨Or.inl rfl, ⟨Or.inl rfl, ⟨Or.inl rfl, trivial⟩⟩⟩⟩ ?_
    exact s_X1_run_11 hD r0 h hz
  · refine S_iload_n (i := 1) dX1_run_4 rfl rfl ?_
    refine S_sipush (z := 1000) dX1_run_5 rfl ?_
    refine P_icmp_le (tgt := 13) dX1_run_8 rfl h (fun h => ?_) (fun h => ?_)
    · refine S_iconst dX1_run_13 rfl ?_
      refine S_istore_n (i := 2) dX1_run_14 rfl (Nat.le_of_ble_eq_true rfl) rfl rfl ?_
      change Sem g d YX1_run 15 [(1, x0), (0, x1), (0, 0), (9, 0)] [] M o
      refine S_iconst dX1_run_15 rfl ?_
      refine S_istore_n (i := 3) dX1_run_16 rfl (Nat.le_of_ble_eq_true rfl) rfl rfl ?_
      change Sem g d YX1_run 17 [(1, x0), (0, x1), (0, 0), (0, 0)] [] M o
      exact sl_X1_run_17 hD r0 h hz
    · refine S_weak (ls' := [(9, 0), (9, 0), (9, 0), (9, 0)]) ⟨Or.inl rfl, ⟨Or.inl rfl, ⟨Or.inl rfl, ⟨Or.inl rfl, trivial⟩⟩⟩⟩ ?_
      exact s_X1_run_11 hD r0 h hz
theorem F_X1_run {g : GG} {d : Nat} (hD : 220 ≤ d) {x0 x1 : Int} {M : MM} {r : Int × MM} (h : f_X1_run x0 x1 M = some r) : Sem g d YX1_run 0 (ini YX1_run [(1, x0), (0, x1)]) [] M ((0, r.1), r.2) := by
  change Sem g d YX1_run 0 [(1, x0), (0, x1), (9, 0), (9, 0)] [] M ((0, r.1), r.2)
  exact s_X1_run_0 hD (P := fun x => x = r) (fun q e => by rw [e]) h rfl
/-! PeerSearch$Net.canBe(II)Z -/
theorem dX7_canBe_0 : decode cX7_canBe 0 = .ok (.iload_n 0, 1) := by decide +kernel
theorem dX7_canBe_1 : decode cX7_canBe 1 = .ok (.tableswitch 203 0 10 #[59, 76, 93, 59, 109, 127, 142, 159, 142, 176, 193], 59) := by decide +kernel
theorem dX7_canBe_60 : decode cX7_canBe 60 = .ok (.iload_n 1, 1) := by decide +kernel
theorem dX7_canBe_61 : decode cX7_canBe 61 = .ok (.ifCond .lt 14, 3) := by decide +kernel
theorem dX7_canBe_64 : decode cX7_canBe 64 = .ok (.iload_n 1, 1) := by decide +kernel
theorem dX7_canBe_65 : decode cX7_canBe 65 = .ok (.sipush 1000, 3) := by decide +kernel
theorem dX7_canBe_68 : decode cX7_canBe 68 = .ok (.if_icmp .gt 7, 3) := by decide +kernel
theorem dX7_canBe_71 : decode cX7_canBe 71 = .ok (.iconst 1, 1) := by decide +kernel
theorem dX7_canBe_72 : decode cX7_canBe 72 = .ok (.goto 4, 3) := by decide +kernel
theorem dX7_canBe_75 : decode cX7_canBe 75 = .ok (.iconst 0, 1) := by decide +kernel
theorem dX7_canBe_76 : decode cX7_canBe 76 = .ok (.ireturn, 1) := by decide +kernel
theorem dX7_canBe_77 : decode cX7_canBe 77 = .ok (.iload_n 1, 1) := by decide +kernel
theorem dX7_canBe_78 : decode cX7_canBe 78 = .ok (.iconst 1, 1) := by decide +kernel
theorem dX7_canBe_79 : decode cX7_canBe 79 = .ok (.if_icmp .lt 13, 3) := by decide +kernel
theorem dX7_canBe_82 : decode cX7_canBe 82 = .ok (.iload_n 1, 1) := by decide +kernel
theorem dX7_canBe_83 : decode cX7_canBe 83 = .ok (.bipush 50, 2) := by decide +kernel
theorem dX7_canBe_85 : decode cX7_canBe 85 = .ok (.if_icmp .gt 7, 3) := by decide +kernel
theorem dX7_canBe_88 : decode cX7_canBe 88 = .ok (.iconst 1, 1) := by decide +kernel
theorem dX7_canBe_89 : decode cX7_canBe 89 = .ok (.goto 4, 3) := by decide +kernel
theorem dX7_canBe_92 : decode cX7_canBe 92 = .ok (.iconst 0, 1) := by decide +kernel
theorem dX7_canBe_93 : decode cX7_canBe 93 = .ok (.ireturn, 1) := by decide +kernel
theorem dX7_canBe_94 : decode cX7_canBe 94 = .ok (.iload_n 1, 1) := by decide +kernel
theorem dX7_canBe_95 : decode cX7_canBe 95 = .ok (.ifCond .lt 13, 3) := by decide +kernel
theorem dX7_canBe_98 : decode cX7_canBe 98 = .ok (.iload_n 1, 1) := by decide +kernel
theorem dX7_canBe_99 : decode cX7_canBe 99 = .ok (.bipush 50, 2) := by decide +kernel
theorem dX7_canBe_101 : decode cX7_canBe 101 = .ok (.if_icmp .gt 7, 3) := by decide +kernel
theorem dX7_canBe_104 : decode cX7_canBe 104 = .ok (.iconst 1, 1) := by decide +kernel
theorem dX7_canBe_105 : decode cX7_canBe 105 = .ok (.goto 4, 3) := by decide +kernel
theorem dX7_canBe_108 : decode cX7_canBe 108 = .ok (.iconst 0, 1) := by decide +kernel
theorem dX7_canBe_109 : decode cX7_canBe 109 = .ok (.ireturn, 1) := by decide +kernel
theorem dX7_canBe_110 : decode cX7_canBe 110 = .ok (.iload_n 1, 1) := by decide +kernel
theorem dX7_canBe_111 : decode cX7_canBe 111 = .ok (.iconst 1, 1) := by decide +kernel
theorem dX7_canBe_112 : decode cX7_canBe 112 = .ok (.if_icmp .lt 14, 3) := by decide +kernel
theorem dX7_canBe_115 : decode cX7_canBe 115 = .ok (.iload_n 1, 1) := by decide +kernel
theorem dX7_canBe_116 : decode cX7_canBe 116 = .ok (.sipush 500, 3) := by decide +kernel
theorem dX7_canBe_119 : decode cX7_canBe 119 = .ok (.if_icmp .gt 7, 3) := by decide +kernel
theorem dX7_canBe_122 : decode cX7_canBe 122 = .ok (.iconst 1, 1) := by decide +kernel
theorem dX7_canBe_123 : decode cX7_canBe 123 = .ok (.goto 4, 3) := by decide +kernel
theorem dX7_canBe_126 : decode cX7_canBe 126 = .ok (.iconst 0, 1) := by decide +kernel
theorem dX7_canBe_127 : decode cX7_canBe 127 = .ok (.ireturn, 1) := by decide +kernel
theorem dX7_canBe_128 : decode cX7_canBe 128 = .ok (.iload_n 1, 1) := by decide +kernel
theorem dX7_canBe_129 : decode cX7_canBe 129 = .ok (.ifCond .lt 12, 3) := by decide +kernel
theorem dX7_canBe_132 : decode cX7_canBe 132 = .ok (.iload_n 1, 1) := by decide +kernel
theorem dX7_canBe_133 : decode cX7_canBe 133 = .ok (.iconst 3, 1) := by decide +kernel
theorem dX7_canBe_134 : decode cX7_canBe 134 = .ok (.if_icmp .gt 7, 3) := by decide +kernel
theorem dX7_canBe_137 : decode cX7_canBe 137 = .ok (.iconst 1, 1) := by decide +kernel
theorem dX7_canBe_138 : decode cX7_canBe 138 = .ok (.goto 4, 3) := by decide +kernel
theorem dX7_canBe_141 : decode cX7_canBe 141 = .ok (.iconst 0, 1) := by decide +kernel
theorem dX7_canBe_142 : decode cX7_canBe 142 = .ok (.ireturn, 1) := by decide +kernel
theorem dX7_canBe_143 : decode cX7_canBe 143 = .ok (.iload_n 1, 1) := by decide +kernel
theorem dX7_canBe_144 : decode cX7_canBe 144 = .ok (.ifCond .lt 14, 3) := by decide +kernel
theorem dX7_canBe_147 : decode cX7_canBe 147 = .ok (.iload_n 1, 1) := by decide +kernel
theorem dX7_canBe_148 : decode cX7_canBe 148 = .ok (.sipush 10000, 3) := by decide +kernel
theorem dX7_canBe_151 : decode cX7_canBe 151 = .ok (.if_icmp .gt 7, 3) := by decide +kernel
theorem dX7_canBe_154 : decode cX7_canBe 154 = .ok (.iconst 1, 1) := by decide +kernel
theorem dX7_canBe_155 : decode cX7_canBe 155 = .ok (.goto 4, 3) := by decide +kernel
theorem dX7_canBe_158 : decode cX7_canBe 158 = .ok (.iconst 0, 1) := by decide +kernel
theorem dX7_canBe_159 : decode cX7_canBe 159 = .ok (.ireturn, 1) := by decide +kernel
theorem dX7_canBe_160 : decode cX7_canBe 160 = .ok (.iload_n 1, 1) := by decide +kernel
theorem dX7_canBe_161 : decode cX7_canBe 161 = .ok (.iconst 1, 1) := by decide +kernel
theorem dX7_canBe_162 : decode cX7_canBe 162 = .ok (.if_icmp .lt 13, 3) := by decide +kernel
theorem dX7_canBe_165 : decode cX7_canBe 165 = .ok (.iload_n 1, 1) := by decide +kernel
theorem dX7_canBe_166 : decode cX7_canBe 166 = .ok (.ldc 28, 2) := by decide +kernel
theorem dX7_canBe_168 : decode cX7_canBe 168 = .ok (.if_icmp .gt 7, 3) := by decide +kernel
theorem dX7_canBe_171 : decode cX7_canBe 171 = .ok (.iconst 1, 1) := by decide +kernel
theorem dX7_canBe_172 : decode cX7_canBe 172 = .ok (.goto 4, 3) := by decide +kernel
theorem dX7_canBe_175 : decode cX7_canBe 175 = .ok (.iconst 0, 1) := by decide +kernel
theorem dX7_canBe_176 : decode cX7_canBe 176 = .ok (.ireturn, 1) := by decide +kernel
theorem dX7_canBe_177 : decode cX7_canBe 177 = .ok (.iload_n 1, 1) := by decide +kernel
theorem dX7_canBe_178 : decode cX7_canBe 178 = .ok (.iconst 1, 1) := by decide +kernel
theorem dX7_canBe_179 : decode cX7_canBe 179 = .ok (.if_icmp .lt 13, 3) := by decide +kernel
theorem dX7_canBe_182 : decode cX7_canBe 182 = .ok (.iload_n 1, 1) := by decide +kernel
theorem dX7_canBe_183 : decode cX7_canBe 183 = .ok (.bipush 8, 2) := by decide +kernel
theorem dX7_canBe_185 : decode cX7_canBe 185 = .ok (.if_icmp .gt 7, 3) := by decide +kernel
theorem dX7_canBe_188 : decode cX7_canBe 188 = .ok (.iconst 1, 1) := by decide +kernel
theorem dX7_canBe_189 : decode cX7_canBe 189 = .ok (.goto 4, 3) := by decide +kernel
theorem dX7_canBe_192 : decode cX7_canBe 192 = .ok (.iconst 0, 1) := by decide +kernel
theorem dX7_canBe_193 : decode cX7_canBe 193 = .ok (.ireturn, 1) := by decide +kernel
theorem dX7_canBe_194 : decode cX7_canBe 194 = .ok (.iload_n 1, 1) := by decide +kernel
theorem dX7_canBe_195 : decode cX7_canBe 195 = .ok (.ifCond .lt 7, 3) := by decide +kernel
theorem dX7_canBe_198 : decode cX7_canBe 198 = .ok (.iconst 1, 1) := by decide +kernel
theorem dX7_canBe_199 : decode cX7_canBe 199 = .ok (.goto 4, 3) := by decide +kernel
theorem dX7_canBe_202 : decode cX7_canBe 202 = .ok (.iconst 0, 1) := by decide +kernel
theorem dX7_canBe_203 : decode cX7_canBe 203 = .ok (.ireturn, 1) := by decide +kernel
theorem dX7_canBe_204 : decode cX7_canBe 204 = .ok (.iconst 0, 1) := by decide +kernel
theorem dX7_canBe_205 : decode cX7_canBe 205 = .ok (.ireturn, 1) := by decide +kernel
def j_X7_canBe_203 (y0 : Int) : Option (Int) :=
  bz y0 (some y0)
def j_X7_canBe_193 (y0 : Int) : Option (Int) :=
  bz y0 (some y0)
def j_X7_canBe_192 : Option (Int) :=
  j_X7_canBe_193 0
def j_X7_canBe_176 (y0 : Int) : Option (Int) :=
  bz y0 (some y0)
def j_X7_canBe_175 : Option (Int) :=
  j_X7_canBe_176 0
def j_X7_canBe_159 (y0 : Int) : Option (Int) :=
  bz y0 (some y0)
def j_X7_canBe_158 : Option (Int) :=
  j_X7_canBe_159 0
def j_X7_canBe_142 (y0 : Int) : Option (Int) :=
  bz y0 (some y0)
def j_X7_canBe_141 : Option (Int) :=
  j_X7_canBe_142 0
def j_X7_canBe_127 (y0 : Int) : Option (Int) :=
  bz y0 (some y0)
def j_X7_canBe_126 : Option (Int) :=
  j_X7_canBe_127 0
def j_X7_canBe_109 (y0 : Int) : Option (Int) :=
  bz y0 (some y0)
def j_X7_canBe_108 : Option (Int) :=
  j_X7_canBe_109 0
def j_X7_canBe_93 (y0 : Int) : Option (Int) :=
  bz y0 (some y0)
def j_X7_canBe_92 : Option (Int) :=
  j_X7_canBe_93 0
def j_X7_canBe_76 (y0 : Int) : Option (Int) :=
  bz y0 (some y0)
def j_X7_canBe_75 : Option (Int) :=
  j_X7_canBe_76 0
def f_X7_canBe (x0 x1 : Int) : Option (Int) :=
  swt (w32 x0) 0 [
    (
    if w32 x1 < 0 then
      j_X7_canBe_75
    else
      if w32 1000 < w32 x1 then
        j_X7_canBe_75
      else
        j_X7_canBe_76 1
    ),
    (
    if w32 x1 < w32 1 then
      j_X7_canBe_92
    else
      if w32 50 < w32 x1 then
        j_X7_canBe_92
      else
        j_X7_canBe_93 1
    ),
    (
    if w32 x1 < 0 then
      j_X7_canBe_108
    else
      if w32 50 < w32 x1 then
        j_X7_canBe_108
      else
        j_X7_canBe_109 1
    ),
    (
    if w32 x1 < 0 then
      j_X7_canBe_75
    else
      if w32 1000 < w32 x1 then
        j_X7_canBe_75
      else
        j_X7_canBe_76 1
    ),
    (
    if w32 x1 < w32 1 then
      j_X7_canBe_126
    else
      if w32 500 < w32 x1 then
        j_X7_canBe_126
      else
        j_X7_canBe_127 1
    ),
    (
    if w32 x1 < 0 then
      j_X7_canBe_141
    else
      if w32 3 < w32 x1 then
        j_X7_canBe_141
      else
        j_X7_canBe_142 1
    ),
    (
    if w32 x1 < 0 then
      j_X7_canBe_158
    else
      if w32 10000 < w32 x1 then
        j_X7_canBe_158
      else
        j_X7_canBe_159 1
    ),
    (
    if w32 x1 < w32 1 then
      j_X7_canBe_175
    else
      if w32 100000 < w32 x1 then
        j_X7_canBe_175
      else
        j_X7_canBe_176 1
    ),
    (
    if w32 x1 < 0 then
      j_X7_canBe_158
    else
      if w32 10000 < w32 x1 then
        j_X7_canBe_158
      else
        j_X7_canBe_159 1
    ),
    (
    if w32 x1 < w32 1 then
      j_X7_canBe_192
    else
      if w32 8 < w32 x1 then
        j_X7_canBe_192
      else
        j_X7_canBe_193 1
    ),
    (
    if w32 x1 < 0 then
      j_X7_canBe_203 0
    else
      j_X7_canBe_203 1
    )
    ] (
    some 0
    )
theorem s_X7_canBe_203 {g : GG} {d : Nat} (hD : 0 ≤ d) {y0 : Int} {M : MM} {o : AV × MM} {P : (Int) → Prop} (r0 : ∀ r : Int, P r → o = ((0, r), M)) {z : Int} (h : j_X7_canBe_203 y0 = some z) (hz : P z) : Sem g d YX7_canBe 203 [(9, 0), (9, 0)] [(0, y0)] M o := by
  delta j_X7_canBe_203 at h
  obtain ⟨hb, h⟩ := bz_some h
  obtain rfl := r0 _ (some_P (P := fun r => P r) h hz)
  exact P_ret dX7_canBe_203 rfl (Or.inr ⟨rfl, hb⟩)
theorem s_X7_canBe_193 {g : GG} {d : Nat} (hD : 0 ≤ d) {y0 : Int} {M : MM} {o : AV × MM} {P : (Int) → Prop} (r0 : ∀ r : Int, P r → o = ((0, r), M)) {z : Int} (h : j_X7_canBe_193 y0 = some z) (hz : P z) : Sem g d YX7_canBe 193 [(9, 0), (9, 0)] [(0, y0)] M o := by
  delta j_X7_canBe_193 at h
  obtain ⟨hb, h⟩ := bz_some h
  obtain rfl := r0 _ (some_P (P := fun r => P r) h hz)
  exact P_ret dX7_canBe_193 rfl (Or.inr ⟨rfl, hb⟩)
theorem s_X7_canBe_192 {g : GG} {d : Nat} (hD : 0 ≤ d) {M : MM} {o : AV × MM} {P : (Int) → Prop} (r0 : ∀ r : Int, P r → o = ((0, r), M)) {z : Int} (h : j_X7_canBe_192 = some z) (hz : P z) : Sem g d YX7_canBe 192 [(9, 0), (9, 0)] [] M o := by
  delta j_X7_canBe_192 at h
  refine S_iconst dX7_canBe_192 rfl ?_
  exact s_X7_canBe_193 hD r0 h hz
theorem s_X7_canBe_176 {g : GG} {d : Nat} (hD : 0 ≤ d) {y0 : Int} {M : MM} {o : AV × MM} {P : (Int) → Prop} (r0 : ∀ r : Int, P r → o = ((0, r), M)) {z : Int} (h : j_X7_canBe_176 y0 = some z) (hz : P z) : Sem g d YX7_canBe 176 [(9, 0), (9, 0)] [(0, y0)] M o := by
  delta j_X7_canBe_176 at h
  obtain ⟨hb, h⟩ := bz_some h
  obtain rfl := r0 _ (some_P (P := fun r => P r) h hz)
  exact P_ret dX7_canBe_176 rfl (Or.inr ⟨rfl, hb⟩)
theorem s_X7_canBe_175 {g : GG} {d : Nat} (hD : 0 ≤ d) {M : MM} {o : AV × MM} {P : (Int) → Prop} (r0 : ∀ r : Int, P r → o = ((0, r), M)) {z : Int} (h : j_X7_canBe_175 = some z) (hz : P z) : Sem g d YX7_canBe 175 [(9, 0), (9, 0)] [] M o := by
  delta j_X7_canBe_175 at h
  refine S_iconst dX7_canBe_175 rfl ?_
  exact s_X7_canBe_176 hD r0 h hz
theorem s_X7_canBe_159 {g : GG} {d : Nat} (hD : 0 ≤ d) {y0 : Int} {M : MM} {o : AV × MM} {P : (Int) → Prop} (r0 : ∀ r : Int, P r → o = ((0, r), M)) {z : Int} (h : j_X7_canBe_159 y0 = some z) (hz : P z) : Sem g d YX7_canBe 159 [(9, 0), (9, 0)] [(0, y0)] M o := by
  delta j_X7_canBe_159 at h
  obtain ⟨hb, h⟩ := bz_some h
  obtain rfl := r0 _ (some_P (P := fun r => P r) h hz)
  exact P_ret dX7_canBe_159 rfl (Or.inr ⟨rfl, hb⟩)
theorem s_X7_canBe_158 {g : GG} {d : Nat} (hD : 0 ≤ d) {M : MM} {o : AV × MM} {P : (Int) → Prop} (r0 : ∀ r : Int, P r → o = ((0, r), M)) {z : Int} (h : j_X7_canBe_158 = some z) (hz : P z) : Sem g d YX7_canBe 158 [(9, 0), (9, 0)] [] M o := by
  delta j_X7_canBe_158 at h
  refine S_iconst dX7_canBe_158 rfl ?_
  exact s_X7_canBe_159 hD r0 h hz
theorem s_X7_canBe_142 {g : GG} {d : Nat} (hD : 0 ≤ d) {y0 : Int} {M : MM} {o : AV × MM} {P : (Int) → Prop} (r0 : ∀ r : Int, P r → o = ((0, r), M)) {z : Int} (h : j_X7_canBe_142 y0 = some z) (hz : P z) : Sem g d YX7_canBe 142 [(9, 0), (9, 0)] [(0, y0)] M o := by
  delta j_X7_canBe_142 at h
  obtain ⟨hb, h⟩ := bz_some h
  obtain rfl := r0 _ (some_P (P := fun r => P r) h hz)
  exact P_ret dX7_canBe_142 rfl (Or.inr ⟨rfl, hb⟩)
theorem s_X7_canBe_141 {g : GG} {d : Nat} (hD : 0 ≤ d) {M : MM} {o : AV × MM} {P : (Int) → Prop} (r0 : ∀ r : Int, P r → o = ((0, r), M)) {z : Int} (h : j_X7_canBe_141 = some z) (hz : P z) : Sem g d YX7_canBe 141 [(9, 0), (9, 0)] [] M o := by
  delta j_X7_canBe_141 at h
  refine S_iconst dX7_canBe_141 rfl ?_
  exact s_X7_canBe_142 hD r0 h hz
theorem s_X7_canBe_127 {g : GG} {d : Nat} (hD : 0 ≤ d) {y0 : Int} {M : MM} {o : AV × MM} {P : (Int) → Prop} (r0 : ∀ r : Int, P r → o = ((0, r), M)) {z : Int} (h : j_X7_canBe_127 y0 = some z) (hz : P z) : Sem g d YX7_canBe 127 [(9, 0), (9, 0)] [(0, y0)] M o := by
  delta j_X7_canBe_127 at h
  obtain ⟨hb, h⟩ := bz_some h
  obtain rfl := r0 _ (some_P (P := fun r => P r) h hz)
  exact P_ret dX7_canBe_127 rfl (Or.inr ⟨rfl, hb⟩)
theorem s_X7_canBe_126 {g : GG} {d : Nat} (hD : 0 ≤ d) {M : MM} {o : AV × MM} {P : (Int) → Prop} (r0 : ∀ r : Int, P r → o = ((0, r), M)) {z : Int} (h : j_X7_canBe_126 = some z) (hz : P z) : Sem g d YX7_canBe 126 [(9, 0), (9, 0)] [] M o := by
  delta j_X7_canBe_126 at h
  refine S_iconst dX7_canBe_126 rfl ?_
  exact s_X7_canBe_127 hD r0 h hz
theorem s_X7_canBe_109 {g : GG} {d : Nat} (hD : 0 ≤ d) {y0 : Int} {M : MM} {o : AV × MM} {P : (Int) → Prop} (r0 : ∀ r : Int, P r → o = ((0, r), M)) {z : Int} (h : j_X7_canBe_109 y0 = some z) (hz : P z) : Sem g d YX7_canBe 109 [(9, 0), (9, 0)] [(0, y0)] M o := by
  delta j_X7_canBe_109 at h
  obtain ⟨hb, h⟩ := bz_some h
  obtain rfl := r0 _ (some_P (P := fun r => P r) h hz)
  exact P_ret dX7_canBe_109 rfl (Or.inr ⟨rfl, hb⟩)
theorem s_X7_canBe_108 {g : GG} {d : Nat} (hD : 0 ≤ d) {M : MM} {o : AV × MM} {P : (Int) → Prop} (r0 : ∀ r : Int, P r → o = ((0, r), M)) {z : Int} (h : j_X7_canBe_108 = some z) (hz : P z) : Sem g d YX7_canBe 108 [(9, 0), (9, 0)] [] M o := by
  delta j_X7_canBe_108 at h
  refine S_iconst dX7_canBe_108 rfl ?_
  exact s_X7_canBe_109 hD r0 h hz
theorem s_X7_canBe_93 {g : GG} {d : Nat} (hD : 0 ≤ d) {y0 : Int} {M : MM} {o : AV × MM} {P : (Int) → Prop} (r0 : ∀ r : Int, P r → o = ((0, r), M)) {z : Int} (h : j_X7_canBe_93 y0 = some z) (hz : P z) : Sem g d YX7_canBe 93 [(9, 0), (9, 0)] [(0, y0)] M o := by
  delta j_X7_canBe_93 at h
  obtain ⟨hb, h⟩ := bz_some h
  obtain rfl := r0 _ (some_P (P := fun r => P r) h hz)
  exact P_ret dX7_canBe_93 rfl (Or.inr ⟨rfl, hb⟩)
theorem s_X7_canBe_92 {g : GG} {d : Nat} (hD : 0 ≤ d) {M : MM} {o : AV × MM} {P : (Int) → Prop} (r0 : ∀ r : Int, P r → o = ((0, r), M)) {z : Int} (h : j_X7_canBe_92 = some z) (hz : P z) : Sem g d YX7_canBe 92 [(9, 0), (9, 0)] [] M o := by
  delta j_X7_canBe_92 at h
  refine S_iconst dX7_canBe_92 rfl ?_
  exact s_X7_canBe_93 hD r0 h hz
theorem s_X7_canBe_76 {g : GG} {d : Nat} (hD : 0 ≤ d) {y0 : Int} {M : MM} {o : AV × MM} {P : (Int) → Prop} (r0 : ∀ r : Int, P r → o = ((0, r), M)) {z : Int} (h : j_X7_canBe_76 y0 = some z) (hz : P z) : Sem g d YX7_canBe 76 [(9, 0), (9, 0)] [(0, y0)] M o := by
  delta j_X7_canBe_76 at h
  obtain ⟨hb, h⟩ := bz_some h
  obtain rfl := r0 _ (some_P (P := fun r => P r) h hz)
  exact P_ret dX7_canBe_76 rfl (Or.inr ⟨rfl, hb⟩)
theorem s_X7_canBe_75 {g : GG} {d : Nat} (hD : 0 ≤ d) {M : MM} {o : AV × MM} {P : (Int) → Prop} (r0 : ∀ r : Int, P r → o = ((0, r), M)) {z : Int} (h : j_X7_canBe_75 = some z) (hz : P z) : Sem g d YX7_canBe 75 [(9, 0), (9, 0)] [] M o := by
  delta j_X7_canBe_75 at h
  refine S_iconst dX7_canBe_75 rfl ?_
  exact s_X7_canBe_76 hD r0 h hz
theorem s_X7_canBe_0 {g : GG} {d : Nat} (hD : 0 ≤ d) {x0 x1 : Int} {M : MM} {o : AV × MM} {P : (Int) → Prop} (r0 : ∀ r : Int, P r → o = ((0, r), M)) {z : Int} (h : f_X7_canBe x0 x1 = some z) (hz : P z) : Sem g d YX7_canBe 0 [(0, x0), (0, x1)] [] M o := by
  delta f_X7_canBe at h
  refine S_iload_n (i := 0) dX7_canBe_0 rfl rfl ?_
  refine P_swt [60, 77, 94, 60, 110, 128, 143, 160, 143, 177, 194] 204 dX7_canBe_1 rfl rfl rfl rfl h ?_ (fun h => ?_)
  · intro i X hX h t ht
    rcases i with _ | i
    · have e1 := Option.some.inj hX
      have e2 := Option.some.inj ht
      subst e1
      subst e2
      refine S_iload_n (i := 1) dX7_canBe_60 rfl rfl ?_
      refine P_if_lt (tgt := 75) dX7_canBe_61 rfl h (fun h => ?_) (fun h => ?_)
      · refine S_weak (ls' := [(9, 0), (9, 0)]) ⟨Or.inl rfl, ⟨Or.inl rfl, trivial⟩⟩ ?_
        exact s_X7_canBe_75 hD r0 h hz
      · refine S_iload_n (i := 1) dX7_canBe_64 rfl rfl ?_
        refine S_sipush (z := 1000) dX7_canBe_65 rfl ?_
        refine P_icmp_gt (tgt := 75) dX7_canBe_68 rfl h (fun h => ?_) (fun h => ?_)
        · refine S_weak (ls' := [(9, 0), (9, 0)]) ⟨Or.inl rfl, ⟨Or.inl rfl, trivial⟩⟩ ?_
          exact s_X7_canBe_75 hD r0 h hz
        · refine S_iconst dX7_canBe_71 rfl ?_
          refine S_goto (tgt := 76) dX7_canBe_72 rfl ?_
          refine S_weak (ls' := [(9, 0), (9, 0)]) ⟨Or.inl rfl, ⟨Or.inl rfl, trivial⟩⟩ ?_
          exact s_X7_canBe_76 hD r0 h hz
    rcases i with _ | i
    · have e1 := Option.some.inj hX
      have e2 := Option.some.inj ht
      subst e1
      subst e2
      refine S_iload_n (i := 1) dX7_canBe_77 rfl rfl ?_
      refine S_iconst dX7_canBe_78 rfl ?_
      refine P_icmp_lt (tgt := 92) dX7_canBe_79 rfl h (fun h => ?_) (fun h => ?_)
      · refine S_weak (ls' := [(9, 0), (9, 0)]) ⟨Or.inl rfl, ⟨Or.inl rfl, trivial⟩⟩ ?_
        exact s_X7_canBe_92 hD r0 h hz
      · refine S_iload_n (i := 1) dX7_canBe_82 rfl rfl ?_
        refine S_bipush (z := 50) dX7_canBe_83 rfl ?_
        refine P_icmp_gt (tgt := 92) dX7_canBe_85 rfl h (fun h => ?_) (fun h => ?_)
        · refine S_weak (ls' := [(9, 0), (9, 0)]) ⟨Or.inl rfl, ⟨Or.inl rfl, trivial⟩⟩ ?_
          exact s_X7_canBe_92 hD r0 h hz
        · refine S_iconst dX7_canBe_88 rfl ?_
          refine S_goto (tgt := 93) dX7_canBe_89 rfl ?_
          refine S_weak (ls' := [(9, 0), (9, 0)]) ⟨Or.inl rfl, ⟨Or.inl rfl, trivial⟩⟩ ?_
          exact s_X7_canBe_93 hD r0 h hz
    rcases i with _ | i
    · have e1 := Option.some.inj hX
      have e2 := Option.some.inj ht
      subst e1
      subst e2
      refine S_iload_n (i := 1) dX7_canBe_94 rfl rfl ?_
      refine P_if_lt (tgt := 108) dX7_canBe_95 rfl h (fun h => ?_) (fun h => ?_)
      · refine S_weak (ls' := [(9, 0), (9, 0)]) ⟨Or.inl rfl, ⟨Or.inl rfl, trivial⟩⟩ ?_
        exact s_X7_canBe_108 hD r0 h hz
      · refine S_iload_n (i := 1) dX7_canBe_98 rfl rfl ?_
        refine S_bipush (z := 50) dX7_canBe_99 rfl ?_
        refine P_icmp_gt (tgt := 108) dX7_canBe_101 rfl h (fun h => ?_) (fun h => ?_)
        · refine S_weak (ls' := [(9, 0), (9, 0)]) ⟨Or.inl rfl, ⟨Or.inl rfl, trivial⟩⟩ ?_
          exact s_X7_canBe_108 hD r0 h hz
        · refine S_iconst dX7_canBe_104 rfl ?_
          refine S_goto (tgt := 109) dX7_canBe_105 rfl ?_
          refine S_weak (ls' := [(9, 0), (9, 0)]) ⟨Or.inl rfl, ⟨Or.inl rfl, trivial⟩⟩ ?_
          exact s_X7_canBe_109 hD r0 h hz
    rcases i with _ | i
    · have e1 := Option.some.inj hX
      have e2 := Option.some.inj ht
      subst e1
      subst e2
      refine S_iload_n (i := 1) dX7_canBe_60 rfl rfl ?_
      refine P_if_lt (tgt := 75) dX7_canBe_61 rfl h (fun h => ?_) (fun h => ?_)
      · refine S_weak (ls' := [(9, 0), (9, 0)]) ⟨Or.inl rfl, ⟨Or.inl rfl, trivial⟩⟩ ?_
        exact s_X7_canBe_75 hD r0 h hz
      · refine S_iload_n (i := 1) dX7_canBe_64 rfl rfl ?_
        refine S_sipush (z := 1000) dX7_canBe_65 rfl ?_
        refine P_icmp_gt (tgt := 75) dX7_canBe_68 rfl h (fun h => ?_) (fun h => ?_)
        · refine S_weak (ls' := [(9, 0), (9, 0)]) ⟨Or.inl rfl, ⟨Or.inl rfl, trivial⟩⟩ ?_
          exact s_X7_canBe_75 hD r0 h hz
        · refine S_iconst dX7_canBe_71 rfl ?_
          refine S_goto (tgt := 76) dX7_canBe_72 rfl ?_
          refine S_weak (ls' := [(9, 0), (9, 0)]) ⟨Or.inl rfl, ⟨Or.inl rfl, trivial⟩⟩ ?_
          exact s_X7_canBe_76 hD r0 h hz
    rcases i with _ | i
    · have e1 := Option.some.inj hX
      have e2 := Option.some.inj ht
      subst e1
      subst e2
      refine S_iload_n (i := 1) dX7_canBe_110 rfl rfl ?_
      refine S_iconst dX7_canBe_111 rfl ?_
      refine P_icmp_lt (tgt := 126) dX7_canBe_112 rfl h (fun h => ?_) (fun h => ?_)
      · refine S_weak (ls' := [(9, 0), (9, 0)]) ⟨Or.inl rfl, ⟨Or.inl rfl, trivial⟩⟩ ?_
        exact s_X7_canBe_126 hD r0 h hz
      · refine S_iload_n (i := 1) dX7_canBe_115 rfl rfl ?_
        refine S_sipush (z := 500) dX7_canBe_116 rfl ?_
        refine P_icmp_gt (tgt := 126) dX7_canBe_119 rfl h (fun h => ?_) (fun h => ?_)
        · refine S_weak (ls' := [(9, 0), (9, 0)]) ⟨Or.inl rfl, ⟨Or.inl rfl, trivial⟩⟩ ?_
          exact s_X7_canBe_126 hD r0 h hz
        · refine S_iconst dX7_canBe_122 rfl ?_
          refine S_goto (tgt := 127) dX7_canBe_123 rfl ?_
          refine S_weak (ls' := [(9, 0), (9, 0)]) ⟨Or.inl rfl, ⟨Or.inl rfl, trivial⟩⟩ ?_
          exact s_X7_canBe_127 hD r0 h hz
    rcases i with _ | i
    · have e1 := Option.some.inj hX
      have e2 := Option.some.inj ht
      subst e1
      subst e2
      refine S_iload_n (i := 1) dX7_canBe_128 rfl rfl ?_
      refine P_if_lt (tgt := 141) dX7_canBe_129 rfl h (fun h => ?_) (fun h => ?_)
      · refine S_weak (ls' := [(9, 0), (9, 0)]) ⟨Or.inl rfl, ⟨Or.inl rfl, trivial⟩⟩ ?_
        exact s_X7_canBe_141 hD r0 h hz
      · refine S_iload_n (i := 1) dX7_canBe_132 rfl rfl ?_
        refine S_iconst dX7_canBe_133 rfl ?_
        refine P_icmp_gt (tgt := 141) dX7_canBe_134 rfl h (fun h => ?_) (fun h => ?_)
        · refine S_weak (ls' := [(9, 0), (9, 0)]) ⟨Or.inl rfl, ⟨Or.inl rfl, trivial⟩⟩ ?_
          exact s_X7_canBe_141 hD r0 h hz
        · refine S_iconst dX7_canBe_137 rfl ?_
          refine S_goto (tgt := 142) dX7_canBe_138 rfl ?_
          refine S_weak (ls' := [(9, 0), (9, 0)]) ⟨Or.inl rfl, ⟨Or.inl rfl, trivial⟩⟩ ?_
          exact s_X7_canBe_142 hD r0 h hz
    rcases i with _ | i
    · have e1 := Option.some.inj hX
      have e2 := Option.some.inj ht
      subst e1
      subst e2
      refine S_iload_n (i := 1) dX7_canBe_143 rfl rfl ?_
      refine P_if_lt (tgt := 158) dX7_canBe_144 rfl h (fun h => ?_) (fun h => ?_)
      · refine S_weak (ls' := [(9, 0), (9, 0)]) ⟨Or.inl rfl, ⟨Or.inl rfl, trivial⟩⟩ ?_
        exact s_X7_canBe_158 hD r0 h hz
      · refine S_iload_n (i := 1) dX7_canBe_147 rfl rfl ?_
        refine S_sipush (z := 10000) dX7_canBe_148 rfl ?_
        refine P_icmp_gt (tgt := 158) dX7_canBe_151 rfl h (fun h => ?_) (fun h => ?_)
        · refine S_weak (ls' := [(9, 0), (9, 0)]) ⟨Or.inl rfl, ⟨Or.inl rfl, trivial⟩⟩ ?_
          exact s_X7_canBe_158 hD r0 h hz
        · refine S_iconst dX7_canBe_154 rfl ?_
          refine S_goto (tgt := 159) dX7_canBe_155 rfl ?_
          refine S_weak (ls' := [(9, 0), (9, 0)]) ⟨Or.inl rfl, ⟨Or.inl rfl, trivial⟩⟩ ?_
          exact s_X7_canBe_159 hD r0 h hz
    rcases i with _ | i
    · have e1 := Option.some.inj hX
      have e2 := Option.some.inj ht
      subst e1
      subst e2
      refine S_iload_n (i := 1) dX7_canBe_160 rfl rfl ?_
      refine S_iconst dX7_canBe_161 rfl ?_
      refine P_icmp_lt (tgt := 175) dX7_canBe_162 rfl h (fun h => ?_) (fun h => ?_)
      · refine S_weak (ls' := [(9, 0), (9, 0)]) ⟨Or.inl rfl, ⟨Or.inl rfl, trivial⟩⟩ ?_
        exact s_X7_canBe_175 hD r0 h hz
      · refine S_iload_n (i := 1) dX7_canBe_165 rfl rfl ?_
        refine S_ldc (z := 100000) kX7_28 dX7_canBe_166 ?_
        refine P_icmp_gt (tgt := 175) dX7_canBe_168 rfl h (fun h => ?_) (fun h => ?_)
        · refine S_weak (ls' := [(9, 0), (9, 0)]) ⟨Or.inl rfl, ⟨Or.inl rfl, trivial⟩⟩ ?_
          exact s_X7_canBe_175 hD r0 h hz
        · refine S_iconst dX7_canBe_171 rfl ?_
          refine S_goto (tgt := 176) dX7_canBe_172 rfl ?_
          refine S_weak (ls' := [(9, 0), (9, 0)]) ⟨Or.inl rfl, ⟨Or.inl rfl, trivial⟩⟩ ?_
          exact s_X7_canBe_176 hD r0 h hz
    rcases i with _ | i
    · have e1 := Option.some.inj hX
      have e2 := Option.some.inj ht
      subst e1
      subst e2
      refine S_iload_n (i := 1) dX7_canBe_143 rfl rfl ?_
      refine P_if_lt (tgt := 158) dX7_canBe_144 rfl h (fun h => ?_) (fun h => ?_)
      · refine S_weak (ls' := [(9, 0), (9, 0)]) ⟨Or.inl rfl, ⟨Or.inl rfl, trivial⟩⟩ ?_
        exact s_X7_canBe_158 hD r0 h hz
      · refine S_iload_n (i := 1) dX7_canBe_147 rfl rfl ?_
        refine S_sipush (z := 10000) dX7_canBe_148 rfl ?_
        refine P_icmp_gt (tgt := 158) dX7_canBe_151 rfl h (fun h => ?_) (fun h => ?_)
        · refine S_weak (ls' := [(9, 0), (9, 0)]) ⟨Or.inl rfl, ⟨Or.inl rfl, trivial⟩⟩ ?_
          exact s_X7_canBe_158 hD r0 h hz
        · refine S_iconst dX7_canBe_154 rfl ?_
          refine S_goto (tgt := 159) dX7_canBe_155 rfl ?_
          refine S_weak (ls' := [(9, 0), (9, 0)]) ⟨Or.inl rfl, ⟨Or.inl rfl, trivial⟩⟩ ?_
          exact s_X7_canBe_159 hD r0 h hz
    rcases i with _ | i
    · have e1 := Option.some.inj hX
      have e2 := Option.some.inj ht
      subst e1
      subst e2
      refine S_iload_n (i := 1) dX7_canBe_177 rfl rfl ?_
      refine S_iconst dX7_canBe_178 rfl ?_
      refine P_icmp_lt (tgt := 192) dX7_canBe_179 rfl h (fun h => ?_) (fun h => ?_)
      · refine S_weak (ls' := [(9, 0), (9, 0)]) ⟨Or.inl rfl, ⟨Or.inl rfl, trivial⟩⟩ ?_
        exact s_X7_canBe_192 hD r0 h hz
      · refine S_iload_n (i := 1) dX7_canBe_182 rfl rfl ?_
        refine S_bipush (z := 8) dX7_canBe_183 rfl ?_
        refine P_icmp_gt (tgt := 192) dX7_canBe_185 rfl h (fun h => ?_) (fun h => ?_)
        · refine S_weak (ls' := [(9, 0), (9, 0)]) ⟨Or.inl rfl, ⟨Or.inl rfl, trivial⟩⟩ ?_
          exact s_X7_canBe_192 hD r0 h hz
        · refine S_iconst dX7_canBe_188 rfl ?_
          refine S_goto (tgt := 193) dX7_canBe_189 rfl ?_
          refine S_weak (ls' := [(9, 0), (9, 0)]) ⟨Or.inl rfl, ⟨Or.inl rfl, trivial⟩⟩ ?_
          exact s_X7_canBe_193 hD r0 h hz
    rcases i with _ | i
    · have e1 := Option.some.inj hX
      have e2 := Option.some.inj ht
      subst e1
      subst e2
      refine S_iload_n (i := 1) dX7_canBe_194 rfl rfl ?_
      refine P_if_lt (tgt := 202) dX7_canBe_195 rfl h (fun h => ?_) (fun h => ?_)
      · refine S_iconst dX7_canBe_202 rfl ?_
        refine S_weak (ls' := [(9, 0), (9, 0)]) ⟨Or.inl rfl, ⟨Or.inl rfl, trivial⟩⟩ ?_
        exact s_X7_canBe_203 hD r0 h hz
      · refine S_iconst dX7_canBe_198 rfl ?_
        refine S_goto (tgt := 203) dX7_canBe_199 rfl ?_
        refine S_weak (ls' := [(9, 0), (9, 0)]) ⟨Or.inl rfl, ⟨Or.inl rfl, trivial⟩⟩ ?_
        exact s_X7_canBe_203 hD r0 h hz
    cases hX
  · refine S_iconst dX7_canBe_204 rfl ?_
    obtain rfl := r0 _ (some_P (P := fun r => P r) h hz)
    exact P_ret dX7_canBe_205 rfl (Or.inr ⟨rfl, Or.inl rfl⟩)
theorem F_X7_canBe {g : GG} {d : Nat} (hD : 0 ≤ d) {x0 x1 : Int} {M : MM} {r : Int} (h : f_X7_canBe x0 x1 = some r) : Sem g d YX7_canBe 0 (ini YX7_canBe [(0, x0), (0, x1)]) [] M ((0, r), M) := by
  change Sem g d YX7_canBe 0 [(0, x0), (0, x1)] [] M ((0, r), M)
  exact s_X7_canBe_0 hD (P := fun x => x = r) (fun q e => by rw [e]) h rfl
/-! PeerSearch$Net.set(II)Z -/
theorem dX7_set_0 : decode cX7_set 0 = .ok (.iload_n 1, 1) := by decide +kernel
theorem dX7_set_1 : decode cX7_set 1 = .ok (.iload_n 2, 1) := by decide +kernel
theorem dX7_set_2 : decode cX7_set 2 = .ok (.invokestatic 29, 3) := by decide +kernel
theorem dX7_set_5 : decode cX7_set 5 = .ok (.ifCond .ne 5, 3) := by decide +kernel
theorem dX7_set_8 : decode cX7_set 8 = .ok (.iconst 0, 1) := by decide +kernel
theorem dX7_set_9 : decode cX7_set 9 = .ok (.ireturn, 1) := by decide +kernel
theorem dX7_set_10 : decode cX7_set 10 = .ok (.aload_n 0, 1) := by decide +kernel
theorem dX7_set_11 : decode cX7_set 11 = .ok (.getfield 9, 3) := by decide +kernel
theorem dX7_set_14 : decode cX7_set 14 = .ok (.iload_n 1, 1) := by decide +kernel
theorem dX7_set_15 : decode cX7_set 15 = .ok (.iload_n 2, 1) := by decide +kernel
theorem dX7_set_16 : decode cX7_set 16 = .ok (.iastore, 1) := by decide +kernel
theorem dX7_set_17 : decode cX7_set 17 = .ok (.iconst 1, 1) := by decide +kernel
theorem dX7_set_18 : decode cX7_set 18 = .ok (.ireturn, 1) := by decide +kernel
def f_X7_set (x0 x1 x2 : Int) (M : MM) : Option (Int × MM) :=
  (f_X7_canBe x1 x2).bind fun v1 =>
  if w32 v1 = 0 then
    some (0, M)
  else
    (gfr 7 0 x0 M).bind fun v2 =>
    (sai v2 x1 x2 M).bind fun M1 =>
    some (1, M1)
theorem s_X7_set_0 {g : GG} {d : Nat} (hD : 1 ≤ d) {x0 x1 x2 : Int} {M : MM} {o : AV × MM} {P : (Int × MM) → Prop} (r0 : ∀ r : Int × MM, P r → o = ((0, r.1), r.2)) {z : Int × MM} (h : f_X7_set x0 x1 x2 M = some z) (hz : P z) : Sem g d YX7_set 0 [(1, x0), (0, x1), (0, x2)] [] M o := by
  delta f_X7_set at h
  refine S_iload_n (i := 1) dX7_set_0 rfl rfl ?_
  refine S_iload_n (i := 2) dX7_set_1 rfl rfl ?_
  refine P_invSp 0 [(0, x1), (0, x2)] [] CSX7_canBe MLX7_29 dX7_set_2 rfl rfl rfl rfl rfl (by omega) h (fun r h => F_X7_canBe (by omega) h) (fun v1 h => ?_)
  refine P_if_ne (tgt := 10) dX7_set_5 rfl h (fun h => ?_) (fun h => ?_)
  · refine S_aload_n (i := 0) dX7_set_10 rfl rfl ?_
    refine P_gfr FLX7_9 rfl dX7_set_11 h (fun v2 h => ?_)
    refine S_iload_n (i := 1) dX7_set_14 rfl rfl ?_
    refine S_iload_n (i := 2) dX7_set_15 rfl rfl ?_
    refine P_sai dX7_set_16 h (fun M1 h => ?_)
    refine S_iconst dX7_set_17 rfl ?_
    obtain rfl := r0 _ (some_P (P := fun r => P r) h hz)
    exact P_ret dX7_set_18 rfl (Or.inr ⟨rfl, Or.inr rfl⟩)
  · refine S_iconst dX7_set_8 rfl ?_
    obtain rfl := r0 _ (some_P (P := fun r => P r) h hz)
    exact P_ret dX7_set_9 rfl (Or.inr ⟨rfl, Or.inl rfl⟩)
theorem F_X7_set {g : GG} {d : Nat} (hD : 1 ≤ d) {x0 x1 x2 : Int} {M : MM} {r : Int × MM} (h : f_X7_set x0 x1 x2 M = some r) : Sem g d YX7_set 0 (ini YX7_set [(1, x0), (0, x1), (0, x2)]) [] M ((0, r.1), r.2) := by
  change Sem g d YX7_set 0 [(1, x0), (0, x1), (0, x2)] [] M ((0, r.1), r.2)
  exact s_X7_set_0 hD (P := fun x => x = r) (fun q e => by rw [e]) h rfl
