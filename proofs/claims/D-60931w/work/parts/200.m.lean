set_option maxRecDepth 100000
/-! PeerSearch.within(III)I -/
theorem dX1_within_0 : decode cX1_within 0 = .ok (.iload_n 1, 1) := by decide +kernel
theorem dX1_within_1 : decode cX1_within 1 = .ok (.iload_n 0, 1) := by decide +kernel
theorem dX1_within_2 : decode cX1_within 2 = .ok (.iload_n 2, 1) := by decide +kernel
theorem dX1_within_3 : decode cX1_within 3 = .ok (.invokestatic 82, 3) := by decide +kernel
theorem dX1_within_6 : decode cX1_within 6 = .ok (.invokestatic 88, 3) := by decide +kernel
theorem dX1_within_9 : decode cX1_within 9 = .ok (.ireturn, 1) := by decide +kernel
def f_X1_within (x0 x1 x2 : Int) : Option (Int) :=
  some (jmax x1 (jmin x0 x2))
theorem s_X1_within_0 {g : GG} {d : Nat} (hD : 1 ≤ d) {x0 x1 x2 : Int} {M : MM} {o : AV × MM} {P : (Int) → Prop} (r0 : ∀ r : Int, P r → o = ((0, r), M)) {z : Int} (h : f_X1_within x0 x1 x2 = some z) (hz : P z) : Sem g d YX1_within 0 [(0, x0), (0, x1), (0, x2)] [] M o := by
  delta f_X1_within at h
  refine S_iload_n (i := 1) dX1_within_0 rfl rfl ?_
  refine S_iload_n (i := 0) dX1_within_1 rfl rfl ?_
  refine S_iload_n (i := 2) dX1_within_2 rfl rfl ?_
  refine S_min q308 dX1_within_3 rfl (by omega) ?_
  refine S_max q311 dX1_within_6 rfl (by omega) ?_
  obtain rfl := r0 _ (some_P (P := fun r => P r) h hz)
  exact P_ret dX1_within_9 rfl (Or.inl rfl)
theorem F_X1_within {g : GG} {d : Nat} (hD : 1 ≤ d) {x0 x1 x2 : Int} {M : MM} {r : Int} (h : f_X1_within x0 x1 x2 = some r) : Sem g d YX1_within 0 (ini YX1_within [(0, x0), (0, x1), (0, x2)]) [] M ((0, r), M) := by
  change Sem g d YX1_within 0 [(0, x0), (0, x1), (0, x2)] [] M ((0, r), M)
  exact s_X1_within_0 hD (P := fun x => x = r) (fun q e => by rw [e]) h rfl
/-! PeerSearch$Key.<init>()V -/
theorem dX3_init_0 : decode cX3_init 0 = .ok (.aload_n 0, 1) := by decide +kernel
theorem dX3_init_1 : decode cX3_init 1 = .ok (.invokespecial 1, 3) := by decide +kernel
theorem dX3_init_4 : decode cX3_init 4 = .ok (.aload_n 0, 1) := by decide +kernel
theorem dX3_init_5 : decode cX3_init 5 = .ok (.iconst 5, 1) := by decide +kernel
theorem dX3_init_6 : decode cX3_init 6 = .ok (.newarray .int, 2) := by decide +kernel
theorem dX3_init_8 : decode cX3_init 8 = .ok (.putfield 9, 3) := by decide +kernel
theorem dX3_init_11 : decode cX3_init 11 = .ok (.return_, 1) := by decide +kernel
def f_X3_init (x0 : Int) (M : MM) : Option (MM) :=
  nn x0 <|
  (nar 64 5 M).bind fun r1 =>
  (pfr 3 0 x0 r1.1 r1.2).bind fun M1 =>
  some M1
theorem s_X3_init_0 {g : GG} {d : Nat} (hD : 1 ≤ d) {x0 : Int} {M : MM} {o : AV × MM} {P : (MM) → Prop} (r0 : ∀ r : MM, P r → o = ((9, 0), r)) {z : MM} (h : f_X3_init x0 M = some z) (hz : P z) : Sem g d YX3_init 0 [(1, x0)] [] M o := by
  delta f_X3_init at h
  refine S_aload_n (i := 0) dX3_init_0 rfl rfl ?_
  refine P_obj q254 dX3_init_1 rfl (by omega) h (fun h => ?_)
  refine S_aload_n (i := 0) dX3_init_4 rfl rfl ?_
  refine S_iconst dX3_init_5 rfl ?_
  refine P_nar (k := 64) (t := 0) (at' := .int) (by decide) (by decide) rfl q248 dX3_init_6 h (fun r1 h => ?_)
  refine P_pfr FLX3_9 FPX3_9 (Or.inr ⟨_, rfl⟩) rfl dX3_init_8 h (fun M1 h => ?_)
  obtain rfl := r0 _ (some_P (P := fun r => P r) h hz)
  exact S_return dX3_init_11 rfl
theorem F_X3_init {g : GG} {d : Nat} (hD : 1 ≤ d) {x0 : Int} {M : MM} {r : MM} (h : f_X3_init x0 M = some r) : Sem g d YX3_init 0 (ini YX3_init [(1, x0)]) [] M ((9, 0), r) := by
  change Sem g d YX3_init 0 [(1, x0)] [] M ((9, 0), r)
  exact s_X3_init_0 hD (P := fun x => x = r) (fun q e => by rw [e]) h rfl
/-! PeerSearch$Filter.<init>(LPeerSearch$Sha;)V -/
theorem dX10_init_0 : decode cX10_init 0 = .ok (.aload_n 0, 1) := by decide +kernel
theorem dX10_init_1 : decode cX10_init 1 = .ok (.invokespecial 3, 3) := by decide +kernel
theorem dX10_init_4 : decode cX10_init 4 = .ok (.aload_n 0, 1) := by decide +kernel
theorem dX10_init_5 : decode cX10_init 5 = .ok (.sipush 290, 3) := by decide +kernel
theorem dX10_init_8 : decode cX10_init 8 = .ok (.newarray .byte, 2) := by decide +kernel
theorem dX10_init_10 : decode cX10_init 10 = .ok (.putfield 9, 3) := by decide +kernel
theorem dX10_init_13 : decode cX10_init 13 = .ok (.aload_n 0, 1) := by decide +kernel
theorem dX10_init_14 : decode cX10_init 14 = .ok (.iconst 2, 1) := by decide +kernel
theorem dX10_init_15 : decode cX10_init 15 = .ok (.newarray .byte, 2) := by decide +kernel
theorem dX10_init_17 : decode cX10_init 17 = .ok (.putfield 15, 3) := by decide +kernel
theorem dX10_init_20 : decode cX10_init 20 = .ok (.aload_n 0, 1) := by decide +kernel
theorem dX10_init_21 : decode cX10_init 21 = .ok (.new 18, 3) := by decide +kernel
theorem dX10_init_24 : decode cX10_init 24 = .ok (.dup, 1) := by decide +kernel
theorem dX10_init_25 : decode cX10_init 25 = .ok (.invokespecial 20, 3) := by decide +kernel
theorem dX10_init_28 : decode cX10_init 28 = .ok (.putfield 21, 3) := by decide +kernel
theorem dX10_init_31 : decode cX10_init 31 = .ok (.aload_n 0, 1) := by decide +kernel
theorem dX10_init_32 : decode cX10_init 32 = .ok (.aload_n 1, 1) := by decide +kernel
theorem dX10_init_33 : decode cX10_init 33 = .ok (.putfield 25, 3) := by decide +kernel
theorem dX10_init_36 : decode cX10_init 36 = .ok (.return_, 1) := by decide +kernel
def f_X10_init (x0 x1 : Int) (M : MM) : Option (MM) :=
  nn x0 <|
  (nar 81 290 M).bind fun r1 =>
  (pfr 10 0 x0 r1.1 r1.2).bind fun M1 =>
  (nar 97 2 M1).bind fun r2 =>
  (pfr 10 4 x0 r2.1 r2.2).bind fun M2 =>
  (nob 3 1 1 M2).bind fun r3 =>
  nn r3.1 <| (f_X3_init r3.1 r3.2).bind fun M3 =>
  (pfr 10 5 x0 r3.1 M3).bind fun M4 =>
  (pfr 10 3 x0 x1 M4).bind fun M5 =>
  some M5
theorem s_X10_init_0 {g : GG} {d : Nat} (hD : 2 ≤ d) {x0 x1 : Int} {M : MM} {o : AV × MM} {P : (MM) → Prop} (r0 : ∀ r : MM, P r → o = ((9, 0), r)) {z : MM} (h : f_X10_init x0 x1 M = some z) (hz : P z) : Sem g d YX10_init 0 [(1, x0), (1, x1)] [] M o := by
  delta f_X10_init at h
  refine S_aload_n (i := 0) dX10_init_0 rfl rfl ?_
  refine P_obj q394 dX10_init_1 rfl (by omega) h (fun h => ?_)
  refine S_aload_n (i := 0) dX10_init_4 rfl rfl ?_
  refine S_sipush (z := 290) dX10_init_5 rfl ?_
  refine P_nar (k := 81) (t := 0) (at' := .byte) (by decide) (by decide) rfl q247 dX10_init_8 h (fun r1 h => ?_)
  refine P_pfr FLX10_9 FPX10_9 (Or.inr ⟨_, rfl⟩) rfl dX10_init_10 h (fun M1 h => ?_)
  refine S_aload_n (i := 0) dX10_init_13 rfl rfl ?_
  refine S_iconst dX10_init_14 rfl ?_
  refine P_nar (k := 97) (t := 0) (at' := .byte) (by decide) (by decide) rfl q247 dX10_init_15 h (fun r2 h => ?_)
  refine P_pfr FLX10_15 FPX10_15 (Or.inr ⟨_, rfl⟩) rfl dX10_init_17 h (fun M2 h => ?_)
  refine S_aload_n (i := 0) dX10_init_20 rfl rfl ?_
  refine P_nob NLX10_18 rfl dX10_init_21 h (fun r3 h => ?_)
  refine S_dup dX10_init_24 (Nat.le_of_ble_eq_true rfl) ?_
  refine P_invI' [] [(1, r3.1), (1, x0)] CIX3_init MLX10_20 dX10_init_25 rfl rfl rfl rfl (by omega) h (fun r h => F_X3_init (by omega) h) (fun M3 h => ?_)
  refine P_pfr FLX10_21 FPX10_21 (Or.inl ⟨_, rfl⟩) rfl dX10_init_28 h (fun M4 h => ?_)
  refine S_aload_n (i := 0) dX10_init_31 rfl rfl ?_
  refine S_aload_n (i := 1) dX10_init_32 rfl rfl ?_
  refine P_pfr FLX10_25 FPX10_25 (Or.inl ⟨_, rfl⟩) rfl dX10_init_33 h (fun M5 h => ?_)
  obtain rfl := r0 _ (some_P (P := fun r => P r) h hz)
  exact S_return dX10_init_36 rfl
theorem F_X10_init {g : GG} {d : Nat} (hD : 2 ≤ d) {x0 x1 : Int} {M : MM} {r : MM} (h : f_X10_init x0 x1 M = some r) : Sem g d YX10_init 0 (ini YX10_init [(1, x0), (1, x1)]) [] M ((9, 0), r) := by
  change Sem g d YX10_init 0 [(1, x0), (1, x1)] [] M ((9, 0), r)
  exact s_X10_init_0 hD (P := fun x => x = r) (fun q e => by rw [e]) h rfl
/-! PeerSearch$Packet.<init>()V -/
theorem dX4_init_0 : decode cX4_init 0 = .ok (.aload_n 0, 1) := by decide +kernel
theorem dX4_init_1 : decode cX4_init 1 = .ok (.invokespecial 3, 3) := by decide +kernel
theorem dX4_init_4 : decode cX4_init 4 = .ok (.aload_n 0, 1) := by decide +kernel
theorem dX4_init_5 : decode cX4_init 5 = .ok (.sipush 460, 3) := by decide +kernel
theorem dX4_init_8 : decode cX4_init 8 = .ok (.newarray .byte, 2) := by decide +kernel
theorem dX4_init_10 : decode cX4_init 10 = .ok (.putfield 11, 3) := by decide +kernel
theorem dX4_init_13 : decode cX4_init 13 = .ok (.return_, 1) := by decide +kernel
def f_X4_init (x0 : Int) (M : MM) : Option (MM) :=
  nn x0 <|
  (nar 113 460 M).bind fun r1 =>
  (pfr 4 0 x0 r1.1 r1.2).bind fun M1 =>
  some M1
theorem s_X4_init_0 {g : GG} {d : Nat} (hD : 1 ≤ d) {x0 : Int} {M : MM} {o : AV × MM} {P : (MM) → Prop} (r0 : ∀ r : MM, P r → o = ((9, 0), r)) {z : MM} (h : f_X4_init x0 M = some z) (hz : P z) : Sem g d YX4_init 0 [(1, x0)] [] M o := by
  delta f_X4_init at h
  refine S_aload_n (i := 0) dX4_init_0 rfl rfl ?_
  refine P_obj q269 dX4_init_1 rfl (by omega) h (fun h => ?_)
  refine S_aload_n (i := 0) dX4_init_4 rfl rfl ?_
  refine S_sipush (z := 460) dX4_init_5 rfl ?_
  refine P_nar (k := 113) (t := 0) (at' := .byte) (by decide) (by decide) rfl q247 dX4_init_8 h (fun r1 h => ?_)
  refine P_pfr FLX4_11 FPX4_11 (Or.inr ⟨_, rfl⟩) rfl dX4_init_10 h (fun M1 h => ?_)
  obtain rfl := r0 _ (some_P (P := fun r => P r) h hz)
  exact S_return dX4_init_13 rfl
theorem F_X4_init {g : GG} {d : Nat} (hD : 1 ≤ d) {x0 : Int} {M : MM} {r : MM} (h : f_X4_init x0 M = some r) : Sem g d YX4_init 0 (ini YX4_init [(1, x0)]) [] M ((9, 0), r) := by
  change Sem g d YX4_init 0 [(1, x0)] [] M ((9, 0), r)
  exact s_X4_init_0 hD (P := fun x => x = r) (fun q e => by rw [e]) h rfl
/-! PeerSearch$Net.<init>()V -/
theorem dX7_init_0 : decode cX7_init 0 = .ok (.aload_n 0, 1) := by decide +kernel
theorem dX7_init_1 : decode cX7_init 1 = .ok (.invokespecial 3, 3) := by decide +kernel
theorem dX7_init_4 : decode cX7_init 4 = .ok (.aload_n 0, 1) := by decide +kernel
theorem dX7_init_5 : decode cX7_init 5 = .ok (.bipush 11, 2) := by decide +kernel
theorem dX7_init_7 : decode cX7_init 7 = .ok (.newarray .int, 2) := by decide +kernel
theorem dX7_init_9 : decode cX7_init 9 = .ok (.dup, 1) := by decide +kernel
theorem dX7_init_10 : decode cX7_init 10 = .ok (.iconst 0, 1) := by decide +kernel
theorem dX7_init_11 : decode cX7_init 11 = .ok (.iconst 0, 1) := by decide +kernel
theorem dX7_init_12 : decode cX7_init 12 = .ok (.iastore, 1) := by decide +kernel
theorem dX7_init_13 : decode cX7_init 13 = .ok (.dup, 1) := by decide +kernel
theorem dX7_init_14 : decode cX7_init 14 = .ok (.iconst 1, 1) := by decide +kernel
theorem dX7_init_15 : decode cX7_init 15 = .ok (.iconst 1, 1) := by decide +kernel
theorem dX7_init_16 : decode cX7_init 16 = .ok (.iastore, 1) := by decide +kernel
theorem dX7_init_17 : decode cX7_init 17 = .ok (.dup, 1) := by decide +kernel
theorem dX7_init_18 : decode cX7_init 18 = .ok (.iconst 2, 1) := by decide +kernel
theorem dX7_init_19 : decode cX7_init 19 = .ok (.iconst 0, 1) := by decide +kernel
theorem dX7_init_20 : decode cX7_init 20 = .ok (.iastore, 1) := by decide +kernel
theorem dX7_init_21 : decode cX7_init 21 = .ok (.dup, 1) := by decide +kernel
theorem dX7_init_22 : decode cX7_init 22 = .ok (.iconst 3, 1) := by decide +kernel
theorem dX7_init_23 : decode cX7_init 23 = .ok (.iconst 0, 1) := by decide +kernel
theorem dX7_init_24 : decode cX7_init 24 = .ok (.iastore, 1) := by decide +kernel
theorem dX7_init_25 : decode cX7_init 25 = .ok (.dup, 1) := by decide +kernel
theorem dX7_init_26 : decode cX7_init 26 = .ok (.iconst 4, 1) := by decide +kernel
theorem dX7_init_27 : decode cX7_init 27 = .ok (.bipush 20, 2) := by decide +kernel
theorem dX7_init_29 : decode cX7_init 29 = .ok (.iastore, 1) := by decide +kernel
theorem dX7_init_30 : decode cX7_init 30 = .ok (.dup, 1) := by decide +kernel
theorem dX7_init_31 : decode cX7_init 31 = .ok (.iconst 5, 1) := by decide +kernel
theorem dX7_init_32 : decode cX7_init 32 = .ok (.iconst 1, 1) := by decide +kernel
theorem dX7_init_33 : decode cX7_init 33 = .ok (.iastore, 1) := by decide +kernel
theorem dX7_init_34 : decode cX7_init 34 = .ok (.dup, 1) := by decide +kernel
theorem dX7_init_35 : decode cX7_init 35 = .ok (.bipush 6, 2) := by decide +kernel
theorem dX7_init_37 : decode cX7_init 37 = .ok (.iconst 0, 1) := by decide +kernel
theorem dX7_init_38 : decode cX7_init 38 = .ok (.iastore, 1) := by decide +kernel
theorem dX7_init_39 : decode cX7_init 39 = .ok (.dup, 1) := by decide +kernel
theorem dX7_init_40 : decode cX7_init 40 = .ok (.bipush 7, 2) := by decide +kernel
theorem dX7_init_42 : decode cX7_init 42 = .ok (.sipush 10000, 3) := by decide +kernel
theorem dX7_init_45 : decode cX7_init 45 = .ok (.iastore, 1) := by decide +kernel
theorem dX7_init_46 : decode cX7_init 46 = .ok (.dup, 1) := by decide +kernel
theorem dX7_init_47 : decode cX7_init 47 = .ok (.bipush 8, 2) := by decide +kernel
theorem dX7_init_49 : decode cX7_init 49 = .ok (.iconst 0, 1) := by decide +kernel
theorem dX7_init_50 : decode cX7_init 50 = .ok (.iastore, 1) := by decide +kernel
theorem dX7_init_51 : decode cX7_init 51 = .ok (.dup, 1) := by decide +kernel
theorem dX7_init_52 : decode cX7_init 52 = .ok (.bipush 9, 2) := by decide +kernel
theorem dX7_init_54 : decode cX7_init 54 = .ok (.iconst 4, 1) := by decide +kernel
theorem dX7_init_55 : decode cX7_init 55 = .ok (.iastore, 1) := by decide +kernel
theorem dX7_init_56 : decode cX7_init 56 = .ok (.dup, 1) := by decide +kernel
theorem dX7_init_57 : decode cX7_init 57 = .ok (.bipush 10, 2) := by decide +kernel
theorem dX7_init_59 : decode cX7_init 59 = .ok (.iconst 1, 1) := by decide +kernel
theorem dX7_init_60 : decode cX7_init 60 = .ok (.iastore, 1) := by decide +kernel
theorem dX7_init_61 : decode cX7_init 61 = .ok (.putfield 9, 3) := by decide +kernel
theorem dX7_init_64 : decode cX7_init 64 = .ok (.aload_n 0, 1) := by decide +kernel
theorem dX7_init_65 : decode cX7_init 65 = .ok (.sipush 400, 3) := by decide +kernel
theorem dX7_init_68 : decode cX7_init 68 = .ok (.anewarray 15, 3) := by decide +kernel
theorem dX7_init_71 : decode cX7_init 71 = .ok (.putfield 17, 3) := by decide +kernel
theorem dX7_init_74 : decode cX7_init 74 = .ok (.aload_n 0, 1) := by decide +kernel
theorem dX7_init_75 : decode cX7_init 75 = .ok (.new 21, 3) := by decide +kernel
theorem dX7_init_78 : decode cX7_init 78 = .ok (.dup, 1) := by decide +kernel
theorem dX7_init_79 : decode cX7_init 79 = .ok (.invokespecial 23, 3) := by decide +kernel
theorem dX7_init_82 : decode cX7_init 82 = .ok (.putfield 24, 3) := by decide +kernel
theorem dX7_init_85 : decode cX7_init 85 = .ok (.return_, 1) := by decide +kernel
def j_X7_init_85 (M : MM) : Option (MM) :=
  some M
def f_X7_init (x0 : Int) (M : MM) : Option (MM) :=
  nn x0 <|
  (nar 128 11 M).bind fun r1 =>
  (sai r1.1 0 0 r1.2).bind fun M1 =>
  (sai r1.1 1 1 M1).bind fun M2 =>
  (sai r1.1 2 0 M2).bind fun M3 =>
  (sai r1.1 3 0 M3).bind fun M4 =>
  (sai r1.1 4 20 M4).bind fun M5 =>
  (sai r1.1 5 1 M5).bind fun M6 =>
  (sai r1.1 6 0 M6).bind fun M7 =>
  (sai r1.1 7 10000 M7).bind fun M8 =>
  (sai r1.1 8 0 M8).bind fun M9 =>
  (sai r1.1 9 4 M9).bind fun M10 =>
  (sai r1.1 10 1 M10).bind fun M11 =>
  (pfr 7 0 x0 r1.1 M11).bind fun M12 =>
  (nar 149 400 M12).bind fun r2 =>
  (pfr 7 1 x0 r2.1 r2.2).bind fun M13 =>
  (nob 4 2 2 M13).bind fun r3 =>
  nn r3.1 <| (f_X4_init r3.1 r3.2).bind fun M14 =>
  (pfr 7 5 x0 r3.1 M14).bind fun M15 =>
  j_X7_init_85 M15
theorem s_X7_init_85 {g : GG} {d : Nat} (hD : 2 ≤ d) {M : MM} {o : AV × MM} {P : (MM) → Prop} (r0 : ∀ r : MM, P r → o = ((9, 0), r)) {z : MM} (h : j_X7_init_85 M = some z) (hz : P z) : Sem g d YX7_init 85 [(9, 0)] [] M o := by
  delta j_X7_init_85 at h
  obtain rfl := r0 _ (some_P (P := fun r => P r) h hz)
  exact S_return dX7_init_85 rfl
theorem s_X7_init_0 {g : GG} {d : Nat} (hD : 2 ≤ d) {x0 : Int} {M : MM} {o : AV × MM} {P : (MM) → Prop} (r0 : ∀ r : MM, P r → o = ((9, 0), r)) {z : MM} (h : f_X7_init x0 M = some z) (hz : P z) : Sem g d YX7_init 0 [(1, x0)] [] M o := by
  delta f_X7_init at h
  refine S_aload_n (i := 0) dX7_init_0 rfl rfl ?_
  refine P_obj q323 dX7_init_1 rfl (by omega) h (fun h => ?_)
  refine S_aload_n (i := 0) dX7_init_4 rfl rfl ?_
  refine S_bipush (z := 11) dX7_init_5 rfl ?_
  refine P_nar (k := 128) (t := 0) (at' := .int) (by decide) (by decide) rfl q248 dX7_init_7 h (fun r1 h => ?_)
  refine S_dup dX7_init_9 (Nat.le_of_ble_eq_true rfl) ?_
  refine S_iconst dX7_init_10 rfl ?_
  refine S_iconst dX7_init_11 rfl ?_
  refine P_sai dX7_init_12 h (fun M1 h => ?_)
  refine S_dup dX7_init_13 (Nat.le_of_ble_eq_true rfl) ?_
  refine S_iconst dX7_init_14 rfl ?_
  refine S_iconst dX7_init_15 rfl ?_
  refine P_sai dX7_init_16 h (fun M2 h => ?_)
  refine S_dup dX7_init_17 (Nat.le_of_ble_eq_true rfl) ?_
  refine S_iconst dX7_init_18 rfl ?_
  refine S_iconst dX7_init_19 rfl ?_
  refine P_sai dX7_init_20 h (fun M3 h => ?_)
  refine S_dup dX7_init_21 (Nat.le_of_ble_eq_true rfl) ?_
  refine S_iconst dX7_init_22 rfl ?_
  refine S_iconst dX7_init_23 rfl ?_
  refine P_sai dX7_init_24 h (fun M4 h => ?_)
  refine S_dup dX7_init_25 (Nat.le_of_ble_eq_true rfl) ?_
  refine S_iconst dX7_init_26 rfl ?_
  refine S_bipush (z := 20) dX7_init_27 rfl ?_
  refine P_sai dX7_init_29 h (fun M5 h => ?_)
  refine S_dup dX7_init_30 (Nat.le_of_ble_eq_true rfl) ?_
  refine S_iconst dX7_init_31 rfl ?_
  refine S_iconst dX7_init_32 rfl ?_
  refine P_sai dX7_init_33 h (fun M6 h => ?_)
  refine S_dup dX7_init_34 (Nat.le_of_ble_eq_true rfl) ?_
  refine S_bipush (z := 6) dX7_init_35 rfl ?_
  refine S_iconst dX7_init_37 rfl ?_
  refine P_sai dX7_init_38 h (fun M7 h => ?_)
  refine S_dup dX7_init_39 (Nat.le_of_ble_eq_true rfl) ?_
  refine S_bipush (z := 7) dX7_init_40 rfl ?_
  refine S_sipush (z := 10000) dX7_init_42 rfl ?_
  refine P_sai dX7_init_45 h (fun M8 h => ?_)
  refine S_dup dX7_init_46 (Nat.le_of_ble_eq_true rfl) ?_
  refine S_bipush (z := 8) dX7_init_47 rfl ?_
  refine S_iconst dX7_init_49 rfl ?_
  refine P_sai dX7_init_50 h (fun M9 h => ?_)
  refine S_dup dX7_init_51 (Nat.le_of_ble_eq_true rfl) ?_
  refine S_bipush (z := 9) dX7_init_52 rfl ?_
  refine S_iconst dX7_init_54 rfl ?_
  refine P_sai dX7_init_55 h (fun M10 h => ?_)
  refine S_dup dX7_init_56 (Nat.le_of_ble_eq_true rfl) ?_
  refine S_bipush (z := 10) dX7_init_57 rfl ?_
  refine S_iconst dX7_init_59 rfl ?_
  refine P_sai dX7_init_60 h (fun M11 h => ?_)
  refine P_pfr FLX7_9 FPX7_9 (Or.inr ⟨_, rfl⟩) rfl dX7_init_61 h (fun M12 h => ?_)
  refine S_aload_n (i := 0) dX7_init_64 rfl rfl ?_
  refine S_sipush (z := 400) dX7_init_65 rfl ?_
  refine P_naa (k := 149) (by decide) ⟨by decide, by decide⟩ q324 dX7_init_68 h (fun r2 h => ?_)
  refine P_pfr FLX7_17 FPX7_17 (Or.inr ⟨_, rfl⟩) rfl dX7_init_71 h (fun M13 h => ?_)
  refine S_aload_n (i := 0) dX7_init_74 rfl rfl ?_
  refine P_nob NLX7_21 rfl dX7_init_75 h (fun r3 h => ?_)
  refine S_dup dX7_init_78 (Nat.le_of_ble_eq_true rfl) ?_
  refine P_invI' [] [(1, r3.1), (1, x0)] CIX4_init MLX7_23 dX7_init_79 rfl rfl rfl rfl (by omega) h (fun r h => F_X4_init (by omega) h) (fun M14 h => ?_)
  refine P_pfr FLX7_24 FPX7_24 (Or.inl ⟨_, rfl⟩) rfl dX7_init_82 h (fun M15 h => ?_)
  refine S_weak (ls' := [(9, 0)]) ⟨Or.inl rfl, trivial⟩ ?_
  exact s_X7_init_85 hD r0 h hz
theorem F_X7_init {g : GG} {d : Nat} (hD : 2 ≤ d) {x0 : Int} {M : MM} {r : MM} (h : f_X7_init x0 M = some r) : Sem g d YX7_init 0 (ini YX7_init [(1, x0)]) [] M ((9, 0), r) := by
  change Sem g d YX7_init 0 [(1, x0)] [] M ((9, 0), r)
  exact s_X7_init_0 hD (P := fun x => x = r) (fun q e => by rw [e]) h rfl
/-! PeerSearch$Pool.<init>()V -/
theorem dX9_init_0 : decode cX9_init 0 = .ok (.aload_n 0, 1) := by decide +kernel
theorem dX9_init_1 : decode cX9_init 1 = .ok (.invokespecial 1, 3) := by decide +kernel
theorem dX9_init_4 : decode cX9_init 4 = .ok (.aload_n 0, 1) := by decide +kernel
theorem dX9_init_5 : decode cX9_init 5 = .ok (.bipush 64, 2) := by decide +kernel
theorem dX9_init_7 : decode cX9_init 7 = .ok (.anewarray 7, 3) := by decide +kernel
theorem dX9_init_10 : decode cX9_init 10 = .ok (.putfield 9, 3) := by decide +kernel
theorem dX9_init_13 : decode cX9_init 13 = .ok (.return_, 1) := by decide +kernel
def f_X9_init (x0 : Int) (M : MM) : Option (MM) :=
  nn x0 <|
  (nar 166 64 M).bind fun r1 =>
  (pfr 9 0 x0 r1.1 r1.2).bind fun M1 =>
  some M1
theorem s_X9_init_0 {g : GG} {d : Nat} (hD : 1 ≤ d) {x0 : Int} {M : MM} {o : AV × MM} {P : (MM) → Prop} (r0 : ∀ r : MM, P r → o = ((9, 0), r)) {z : MM} (h : f_X9_init x0 M = some z) (hz : P z) : Sem g d YX9_init 0 [(1, x0)] [] M o := by
  delta f_X9_init at h
  refine S_aload_n (i := 0) dX9_init_0 rfl rfl ?_
  refine P_obj q375 dX9_init_1 rfl (by omega) h (fun h => ?_)
  refine S_aload_n (i := 0) dX9_init_4 rfl rfl ?_
  refine S_bipush (z := 64) dX9_init_5 rfl ?_
  refine P_naa (k := 166) (by decide) ⟨by decide, by decide⟩ q376 dX9_init_7 h (fun r1 h => ?_)
  refine P_pfr FLX9_9 FPX9_9 (Or.inr ⟨_, rfl⟩) rfl dX9_init_10 h (fun M1 h => ?_)
  obtain rfl := r0 _ (some_P (P := fun r => P r) h hz)
  exact S_return dX9_init_13 rfl
theorem F_X9_init {g : GG} {d : Nat} (hD : 1 ≤ d) {x0 : Int} {M : MM} {r : MM} (h : f_X9_init x0 M = some r) : Sem g d YX9_init 0 (ini YX9_init [(1, x0)]) [] M ((9, 0), r) := by
  change Sem g d YX9_init 0 [(1, x0)] [] M ((9, 0), r)
  exact s_X9_init_0 hD (P := fun x => x = r) (fun q e => by rw [e]) h rfl
/-! PeerSearch$Sha.<init>()V -/
theorem dX8_init_0 : decode cX8_init 0 = .ok (.aload_n 0, 1) := by decide +kernel
theorem dX8_init_1 : decode cX8_init 1 = .ok (.invokespecial 1, 3) := by decide +kernel
theorem dX8_init_4 : decode cX8_init 4 = .ok (.aload_n 0, 1) := by decide +kernel
theorem dX8_init_5 : decode cX8_init 5 = .ok (.iconst 5, 1) := by decide +kernel
theorem dX8_init_6 : decode cX8_init 6 = .ok (.newarray .int, 2) := by decide +kernel
theorem dX8_init_8 : decode cX8_init 8 = .ok (.putfield 9, 3) := by decide +kernel
theorem dX8_init_11 : decode cX8_init 11 = .ok (.aload_n 0, 1) := by decide +kernel
theorem dX8_init_12 : decode cX8_init 12 = .ok (.bipush 80, 2) := by decide +kernel
theorem dX8_init_14 : decode cX8_init 14 = .ok (.newarray .int, 2) := by decide +kernel
theorem dX8_init_16 : decode cX8_init 16 = .ok (.putfield 15, 3) := by decide +kernel
theorem dX8_init_19 : decode cX8_init 19 = .ok (.aload_n 0, 1) := by decide +kernel
theorem dX8_init_20 : decode cX8_init 20 = .ok (.bipush 64, 2) := by decide +kernel
theorem dX8_init_22 : decode cX8_init 22 = .ok (.newarray .byte, 2) := by decide +kernel
theorem dX8_init_24 : decode cX8_init 24 = .ok (.putfield 18, 3) := by decide +kernel
theorem dX8_init_27 : decode cX8_init 27 = .ok (.return_, 1) := by decide +kernel
def f_X8_init (x0 : Int) (M : MM) : Option (MM) :=
  nn x0 <|
  (nar 176 5 M).bind fun r1 =>
  (pfr 8 0 x0 r1.1 r1.2).bind fun M1 =>
  (nar 192 80 M1).bind fun r2 =>
  (pfr 8 1 x0 r2.1 r2.2).bind fun M2 =>
  (nar 209 64 M2).bind fun r3 =>
  (pfr 8 2 x0 r3.1 r3.2).bind fun M3 =>
  some M3
theorem s_X8_init_0 {g : GG} {d : Nat} (hD : 1 ≤ d) {x0 : Int} {M : MM} {o : AV × MM} {P : (MM) → Prop} (r0 : ∀ r : MM, P r → o = ((9, 0), r)) {z : MM} (h : f_X8_init x0 M = some z) (hz : P z) : Sem g d YX8_init 0 [(1, x0)] [] M o := by
  delta f_X8_init at h
  refine S_aload_n (i := 0) dX8_init_0 rfl rfl ?_
  refine P_obj q359 dX8_init_1 rfl (by omega) h (fun h => ?_)
  refine S_aload_n (i := 0) dX8_init_4 rfl rfl ?_
  refine S_iconst dX8_init_5 rfl ?_
  refine P_nar (k := 176) (t := 0) (at' := .int) (by decide) (by decide) rfl q248 dX8_init_6 h (fun r1 h => ?_)
  refine P_pfr FLX8_9 FPX8_9 (Or.inr ⟨_, rfl⟩) rfl dX8_init_8 h (fun M1 h => ?_)
  refine S_aload_n (i := 0) dX8_init_11 rfl rfl ?_
  refine S_bipush (z := 80) dX8_init_12 rfl ?_
  refine P_nar (k := 192) (t := 0) (at' := .int) (by decide) (by decide) rfl q248 dX8_init_14 h (fun r2 h => ?_)
  refine P_pfr FLX8_15 FPX8_15 (Or.inr ⟨_, rfl⟩) rfl dX8_init_16 h (fun M2 h => ?_)
  refine S_aload_n (i := 0) dX8_init_19 rfl rfl ?_
  refine S_bipush (z := 64) dX8_init_20 rfl ?_
  refine P_nar (k := 209) (t := 0) (at' := .byte) (by decide) (by decide) rfl q247 dX8_init_22 h (fun r3 h => ?_)
  refine P_pfr FLX8_18 FPX8_18 (Or.inr ⟨_, rfl⟩) rfl dX8_init_24 h (fun M3 h => ?_)
  obtain rfl := r0 _ (some_P (P := fun r => P r) h hz)
  exact S_return dX8_init_27 rfl
theorem F_X8_init {g : GG} {d : Nat} (hD : 1 ≤ d) {x0 : Int} {M : MM} {r : MM} (h : f_X8_init x0 M = some r) : Sem g d YX8_init 0 (ini YX8_init [(1, x0)]) [] M ((9, 0), r) := by
  change Sem g d YX8_init 0 [(1, x0)] [] M ((9, 0), r)
  exact s_X8_init_0 hD (P := fun x => x = r) (fun q e => by rw [e]) h rfl
/-! PeerSearch$Board.<init>(II)V -/
theorem dX6_init_0 : decode cX6_init 0 = .ok (.aload_n 0, 1) := by decide +kernel
theorem dX6_init_1 : decode cX6_init 1 = .ok (.invokespecial 3, 3) := by decide +kernel
theorem dX6_init_4 : decode cX6_init 4 = .ok (.aload_n 0, 1) := by decide +kernel
theorem dX6_init_5 : decode cX6_init 5 = .ok (.new 9, 3) := by decide +kernel
theorem dX6_init_8 : decode cX6_init 8 = .ok (.dup, 1) := by decide +kernel
theorem dX6_init_9 : decode cX6_init 9 = .ok (.invokespecial 11, 3) := by decide +kernel
theorem dX6_init_12 : decode cX6_init 12 = .ok (.putfield 12, 3) := by decide +kernel
theorem dX6_init_15 : decode cX6_init 15 = .ok (.aload_n 0, 1) := by decide +kernel
theorem dX6_init_16 : decode cX6_init 16 = .ok (.new 18, 3) := by decide +kernel
theorem dX6_init_19 : decode cX6_init 19 = .ok (.dup, 1) := by decide +kernel
theorem dX6_init_20 : decode cX6_init 20 = .ok (.invokespecial 20, 3) := by decide +kernel
theorem dX6_init_23 : decode cX6_init 23 = .ok (.putfield 21, 3) := by decide +kernel
theorem dX6_init_26 : decode cX6_init 26 = .ok (.aload_n 0, 1) := by decide +kernel
theorem dX6_init_27 : decode cX6_init 27 = .ok (.new 25, 3) := by decide +kernel
theorem dX6_init_30 : decode cX6_init 30 = .ok (.dup, 1) := by decide +kernel
theorem dX6_init_31 : decode cX6_init 31 = .ok (.invokespecial 27, 3) := by decide +kernel
theorem dX6_init_34 : decode cX6_init 34 = .ok (.putfield 28, 3) := by decide +kernel
theorem dX6_init_37 : decode cX6_init 37 = .ok (.aload_n 0, 1) := by decide +kernel
theorem dX6_init_38 : decode cX6_init 38 = .ok (.bipush 32, 2) := by decide +kernel
theorem dX6_init_40 : decode cX6_init 40 = .ok (.anewarray 32, 3) := by decide +kernel
theorem dX6_init_43 : decode cX6_init 43 = .ok (.putfield 34, 3) := by decide +kernel
theorem dX6_init_46 : decode cX6_init 46 = .ok (.aload_n 0, 1) := by decide +kernel
theorem dX6_init_47 : decode cX6_init 47 = .ok (.new 38, 3) := by decide +kernel
theorem dX6_init_50 : decode cX6_init 50 = .ok (.dup, 1) := by decide +kernel
theorem dX6_init_51 : decode cX6_init 51 = .ok (.invokespecial 40, 3) := by decide +kernel
theorem dX6_init_54 : decode cX6_init 54 = .ok (.putfield 41, 3) := by decide +kernel
theorem dX6_init_57 : decode cX6_init 57 = .ok (.aload_n 0, 1) := by decide +kernel
theorem dX6_init_58 : decode cX6_init 58 = .ok (.new 38, 3) := by decide +kernel
theorem dX6_init_61 : decode cX6_init 61 = .ok (.dup, 1) := by decide +kernel
theorem dX6_init_62 : decode cX6_init 62 = .ok (.invokespecial 40, 3) := by decide +kernel
theorem dX6_init_65 : decode cX6_init 65 = .ok (.putfield 45, 3) := by decide +kernel
theorem dX6_init_68 : decode cX6_init 68 = .ok (.aload_n 0, 1) := by decide +kernel
theorem dX6_init_69 : decode cX6_init 69 = .ok (.new 48, 3) := by decide +kernel
theorem dX6_init_72 : decode cX6_init 72 = .ok (.dup, 1) := by decide +kernel
theorem dX6_init_73 : decode cX6_init 73 = .ok (.aload_n 0, 1) := by decide +kernel
theorem dX6_init_74 : decode cX6_init 74 = .ok (.getfield 21, 3) := by decide +kernel
theorem dX6_init_77 : decode cX6_init 77 = .ok (.invokespecial 50, 3) := by decide +kernel
theorem dX6_init_80 : decode cX6_init 80 = .ok (.putfield 53, 3) := by decide +kernel
theorem dX6_init_83 : decode cX6_init 83 = .ok (.aload_n 0, 1) := by decide +kernel
theorem dX6_init_84 : decode cX6_init 84 = .ok (.new 57, 3) := by decide +kernel
theorem dX6_init_87 : decode cX6_init 87 = .ok (.dup, 1) := by decide +kernel
theorem dX6_init_88 : decode cX6_init 88 = .ok (.invokespecial 59, 3) := by decide +kernel
theorem dX6_init_91 : decode cX6_init 91 = .ok (.putfield 60, 3) := by decide +kernel
theorem dX6_init_94 : decode cX6_init 94 = .ok (.aload_n 0, 1) := by decide +kernel
theorem dX6_init_95 : decode cX6_init 95 = .ok (.new 57, 3) := by decide +kernel
theorem dX6_init_98 : decode cX6_init 98 = .ok (.dup, 1) := by decide +kernel
theorem dX6_init_99 : decode cX6_init 99 = .ok (.invokespecial 59, 3) := by decide +kernel
theorem dX6_init_102 : decode cX6_init 102 = .ok (.putfield 64, 3) := by decide +kernel
theorem dX6_init_105 : decode cX6_init 105 = .ok (.aload_n 0, 1) := by decide +kernel
theorem dX6_init_106 : decode cX6_init 106 = .ok (.new 57, 3) := by decide +kernel
theorem dX6_init_109 : decode cX6_init 109 = .ok (.dup, 1) := by decide +kernel
theorem dX6_init_110 : decode cX6_init 110 = .ok (.invokespecial 59, 3) := by decide +kernel
theorem dX6_init_113 : decode cX6_init 113 = .ok (.putfield 67, 3) := by decide +kernel
theorem dX6_init_116 : decode cX6_init 116 = .ok (.aload_n 0, 1) := by decide +kernel
theorem dX6_init_117 : decode cX6_init 117 = .ok (.bipush 40, 2) := by decide +kernel
theorem dX6_init_119 : decode cX6_init 119 = .ok (.newarray .int, 2) := by decide +kernel
theorem dX6_init_121 : decode cX6_init 121 = .ok (.putfield 70, 3) := by decide +kernel
theorem dX6_init_124 : decode cX6_init 124 = .ok (.aload_n 0, 1) := by decide +kernel
theorem dX6_init_125 : decode cX6_init 125 = .ok (.iload_n 1, 1) := by decide +kernel
theorem dX6_init_126 : decode cX6_init 126 = .ok (.putfield 74, 3) := by decide +kernel
theorem dX6_init_129 : decode cX6_init 129 = .ok (.aload_n 0, 1) := by decide +kernel
theorem dX6_init_130 : decode cX6_init 130 = .ok (.iload_n 2, 1) := by decide +kernel
theorem dX6_init_131 : decode cX6_init 131 = .ok (.putfield 78, 3) := by decide +kernel
theorem dX6_init_134 : decode cX6_init 134 = .ok (.aload_n 0, 1) := by decide +kernel
theorem dX6_init_135 : decode cX6_init 135 = .ok (.iload_n 1, 1) := by decide +kernel
theorem dX6_init_136 : decode cX6_init 136 = .ok (.anewarray 81, 3) := by decide +kernel
theorem dX6_init_139 : decode cX6_init 139 = .ok (.putfield 83, 3) := by decide +kernel
theorem dX6_init_142 : decode cX6_init 142 = .ok (.return_, 1) := by decide +kernel
def j_X6_init_129 (x0 x1 x2 : Int) (M : MM) : Option (MM) :=
  (pfi 6 1 x0 x2 M).bind fun M1 =>
  (nar 230 x1 M1).bind fun r1 =>
  (pfr 6 7 x0 r1.1 r1.2).bind fun M2 =>
  some M2
def f_X6_init (x0 x1 x2 : Int) (M : MM) : Option (MM) :=
  nn x0 <|
  (nob 7 6 3 M).bind fun r1 =>
  nn r1.1 <| (f_X7_init r1.1 r1.2).bind fun M1 =>
  (pfr 6 2 x0 r1.1 M1).bind fun M2 =>
  (nob 8 3 4 M2).bind fun r2 =>
  nn r2.1 <| (f_X8_init r2.1 r2.2).bind fun M3 =>
  (pfr 6 3 x0 r2.1 M3).bind fun M4 =>
  (nob 9 2 5 M4).bind fun r3 =>
  nn r3.1 <| (f_X9_init r3.1 r3.2).bind fun M5 =>
  (pfr 6 4 x0 r3.1 M5).bind fun M6 =>
  (nar 247 32 M6).bind fun r4 =>
  (pfr 6 5 x0 r4.1 r4.2).bind fun M7 =>
  (nob 4 2 6 M7).bind fun r5 =>
  nn r5.1 <| (f_X4_init r5.1 r5.2).bind fun M8 =>
  (pfr 6 8 x0 r5.1 M8).bind fun M9 =>
  (nob 4 2 7 M9).bind fun r6 =>
  nn r6.1 <| (f_X4_init r6.1 r6.2).bind fun M10 =>
  (pfr 6 9 x0 r6.1 M10).bind fun M11 =>
  (nob 10 6 8 M11).bind fun r7 =>
  (gfr 6 3 x0 r7.2).bind fun v1 =>
  nn r7.1 <| (f_X10_init r7.1 v1 r7.2).bind fun M12 =>
  (pfr 6 10 x0 r7.1 M12).bind fun M13 =>
  (nob 3 1 9 M13).bind fun r8 =>
  nn r8.1 <| (f_X3_init r8.1 r8.2).bind fun M14 =>
  (pfr 6 11 x0 r8.1 M14).bind fun M15 =>
  (nob 3 1 10 M15).bind fun r9 =>
  nn r9.1 <| (f_X3_init r9.1 r9.2).bind fun M16 =>
  (pfr 6 12 x0 r9.1 M16).bind fun M17 =>
  (nob 3 1 11 M17).bind fun r10 =>
  nn r10.1 <| (f_X3_init r10.1 r10.2).bind fun M18 =>
  (pfr 6 13 x0 r10.1 M18).bind fun M19 =>
  (nar 256 40 M19).bind fun r11 =>
  (pfr 6 14 x0 r11.1 r11.2).bind fun M20 =>
  (pfi 6 0 x0 x1 M20).bind fun M21 =>
  j_X6_init_129 x0 x1 x2 M21
theorem s_X6_init_129 {g : GG} {d : Nat} (hD : 3 ≤ d) {x0 x1 x2 : Int} {M : MM} {o : AV × MM} {P : (MM) → Prop} (r0 : ∀ r : MM, P r → o = ((9, 0), r)) {z : MM} (h : j_X6_init_129 x0 x1 x2 M = some z) (hz : P z) : Sem g d YX6_init 129 [(1, x0), (0, x1), (0, x2)] [] M o := by
  delta j_X6_init_129 at h
  refine S_aload_n (i := 0) dX6_init_129 rfl rfl ?_
  refine S_iload_n (i := 2) dX6_init_130 rfl rfl ?_
  refine P_pfi FLX6_78 FPX6_78 rfl dX6_init_131 h (fun M1 h => ?_)
  refine S_aload_n (i := 0) dX6_init_134 rfl rfl ?_
  refine S_iload_n (i := 1) dX6_init_135 rfl rfl ?_
  refine P_naa (k := 230) (by decide) ⟨by decide, by decide⟩ q418 dX6_init_136 h (fun r1 h => ?_)
  refine P_pfr FLX6_83 FPX6_83 (Or.inr ⟨_, rfl⟩) rfl dX6_init_139 h (fun M2 h => ?_)
  obtain rfl := r0 _ (some_P (P := fun r => P r) h hz)
  exact S_return dX6_init_142 rfl
theorem s_X6_init_0 {g : GG} {d : Nat} (hD : 3 ≤ d) {x0 x1 x2 : Int} {M : MM} {o : AV × MM} {P : (MM) → Prop} (r0 : ∀ r : MM, P r → o = ((9, 0), r)) {z : MM} (h : f_X6_init x0 x1 x2 M = some z) (hz : P z) : Sem g d YX6_init 0 [(1, x0), (0, x1), (0, x2)] [] M o := by
  delta f_X6_init at h
  refine S_aload_n (i := 0) dX6_init_0 rfl rfl ?_
  refine P_obj q317 dX6_init_1 rfl (by omega) h (fun h => ?_)
  refine S_aload_n (i := 0) dX6_init_4 rfl rfl ?_
  refine P_nob NLX6_9 rfl dX6_init_5 h (fun r1 h => ?_)
  refine S_dup dX6_init_8 (Nat.le_of_ble_eq_true rfl) ?_
  refine P_invI' [] [(1, r1.1), (1, x0)] CIX7_init MLX6_11 dX6_init_9 rfl rfl rfl rfl (by omega) h (fun r h => F_X7_init (by omega) h) (fun M1 h => ?_)
  refine P_pfr FLX6_12 FPX6_12 (Or.inl ⟨_, rfl⟩) rfl dX6_init_12 h (fun M2 h => ?_)
  refine S_aload_n (i := 0) dX6_init_15 rfl rfl ?_
  refine P_nob NLX6_18 rfl dX6_init_16 h (fun r2 h => ?_)
  refine S_dup dX6_init_19 (Nat.le_of_ble_eq_true rfl) ?_
  refine P_invI' [] [(1, r2.1), (1, x0)] CIX8_init MLX6_20 dX6_init_20 rfl rfl rfl rfl (by omega) h (fun r h => F_X8_init (by omega) h) (fun M3 h => ?_)
  refine P_pfr FLX6_21 FPX6_21 (Or.inl ⟨_, rfl⟩) rfl dX6_init_23 h (fun M4 h => ?_)
  refine S_aload_n (i := 0) dX6_init_26 rfl rfl ?_
  refine P_nob NLX6_25 rfl dX6_init_27 h (fun r3 h => ?_)
  refine S_dup dX6_init_30 (Nat.le_of_ble_eq_true rfl) ?_
  refine P_invI' [] [(1, r3.1), (1, x0)] CIX9_init MLX6_27 dX6_init_31 rfl rfl rfl rfl (by omega) h (fun r h => F_X9_init (by omega) h) (fun M5 h => ?_)
  refine P_pfr FLX6_28 FPX6_28 (Or.inl ⟨_, rfl⟩) rfl dX6_init_34 h (fun M6 h => ?_)
  refine S_aload_n (i := 0) dX6_init_37 rfl rfl ?_
  refine S_bipush (z := 32) dX6_init_38 rfl ?_
  refine P_naa (k := 247) (by decide) ⟨by decide, by decide⟩ q385 dX6_init_40 h (fun r4 h => ?_)
  refine P_pfr FLX6_34 FPX6_34 (Or.inr ⟨_, rfl⟩) rfl dX6_init_43 h (fun M7 h => ?_)
  refine S_aload_n (i := 0) dX6_init_46 rfl rfl ?_
  refine P_nob NLX6_38 rfl dX6_init_47 h (fun r5 h => ?_)
  refine S_dup dX6_init_50 (Nat.le_of_ble_eq_true rfl) ?_
  refine P_invI' [] [(1, r5.1), (1, x0)] CIX4_init MLX6_40 dX6_init_51 rfl rfl rfl rfl (by omega) h (fun r h => F_X4_init (by omega) h) (fun M8 h => ?_)
  refine P_pfr FLX6_41 FPX6_41 (Or.inl ⟨_, rfl⟩) rfl dX6_init_54 h (fun M9 h => ?_)
  refine S_aload_n (i := 0) dX6_init_57 rfl rfl ?_
  refine P_nob NLX6_38 rfl dX6_init_58 h (fun r6 h => ?_)
  refine S_dup dX6_init_61 (Nat.le_of_ble_eq_true rfl) ?_
  refine P_invI' [] [(1, r6.1), (1, x0)] CIX4_init MLX6_40 dX6_init_62 rfl rfl rfl rfl (by omega) h (fun r h => F_X4_init (by omega) h) (fun M10 h => ?_)
  refine P_pfr FLX6_45 FPX6_45 (Or.inl ⟨_, rfl⟩) rfl dX6_init_65 h (fun M11 h => ?_)
  refine S_aload_n (i := 0) dX6_init_68 rfl rfl ?_
  refine P_nob NLX6_48 rfl dX6_init_69 h (fun r7 h => ?_)
  refine S_dup dX6_init_72 (Nat.le_of_ble_eq_true rfl) ?_
  refine S_aload_n (i := 0) dX6_init_73 rfl rfl ?_
  refine P_gfr FLX6_21 rfl dX6_init_74 h (fun v1 h => ?_)
  refine P_invI' [(1, v1)] [(1, r7.1), (1, x0)] CIX10_init MLX6_50 dX6_init_77 rfl rfl rfl rfl (by omega) h (fun r h => F_X10_init (by omega) h) (fun M12 h => ?_)
  refine P_pfr FLX6_53 FPX6_53 (Or.inl ⟨_, rfl⟩) rfl dX6_init_80 h (fun M13 h => ?_)
  refine S_aload_n (i := 0) dX6_init_83 rfl rfl ?_
  refine P_nob NLX6_57 rfl dX6_init_84 h (fun r8 h => ?_)
  refine S_dup dX6_init_87 (Nat.le_of_ble_eq_true rfl) ?_
  refine P_invI' [] [(1, r8.1), (1, x0)] CIX3_init MLX6_59 dX6_init_88 rfl rfl rfl rfl (by omega) h (fun r h => F_X3_init (by omega) h) (fun M14 h => ?_)
  refine P_pfr FLX6_60 FPX6_60 (Or.inl ⟨_, rfl⟩) rfl dX6_init_91 h (fun M15 h => ?_)
  refine S_aload_n (i := 0) dX6_init_94 rfl rfl ?_
  refine P_nob NLX6_57 rfl dX6_init_95 h (fun r9 h => ?_)
  refine S_dup dX6_init_98 (Nat.le_of_ble_eq_true rfl) ?_
  refine P_invI' [] [(1, r9.1), (1, x0)] CIX3_init MLX6_59 dX6_init_99 rfl rfl rfl rfl (by omega) h (fun r h => F_X3_init (by omega) h) (fun M16 h => ?_)
  refine P_pfr FLX6_64 FPX6_64 (Or.inl ⟨_, rfl⟩) rfl dX6_init_102 h (fun M17 h => ?_)
  refine S_aload_n (i := 0) dX6_init_105 rfl rfl ?_
  refine P_nob NLX6_57 rfl dX6_init_106 h (fun r10 h => ?_)
  refine S_dup dX6_init_109 (Nat.le_of_ble_eq_true rfl) ?_
  refine P_invI' [] [(1, r10.1), (1, x0)] CIX3_init MLX6_59 dX6_init_110 rfl rfl rfl rfl (by omega) h (fun r h => F_X3_init (by omega) h) (fun M18 h => ?_)
  refine P_pfr FLX6_67 FPX6_67 (Or.inl ⟨_, rfl⟩) rfl dX6_init_113 h (fun M19 h => ?_)
  refine S_aload_n (i := 0) dX6_init_116 rfl rfl ?_
  refine S_bipush (z := 40) dX6_init_117 rfl ?_
  refine P_nar (k := 256) (t := 0) (at' := .int) (by decide) (by decide) rfl q248 dX6_init_119 h (fun r11 h => ?_)
  refine P_pfr FLX6_70 FPX6_70 (Or.inr ⟨_, rfl⟩) rfl dX6_init_121 h (fun M20 h => ?_)
  refine S_aload_n (i := 0) dX6_init_124 rfl rfl ?_
  refine S_iload_n (i := 1) dX6_init_125 rfl rfl ?_
  refine P_pfi FLX6_74 FPX6_74 rfl dX6_init_126 h (fun M21 h => ?_)
  exact s_X6_init_129 hD r0 h hz
theorem F_X6_init {g : GG} {d : Nat} (hD : 3 ≤ d) {x0 x1 x2 : Int} {M : MM} {r : MM} (h : f_X6_init x0 x1 x2 M = some r) : Sem g d YX6_init 0 (ini YX6_init [(1, x0), (0, x1), (0, x2)]) [] M ((9, 0), r) := by
  change Sem g d YX6_init 0 [(1, x0), (0, x1), (0, x2)] [] M ((9, 0), r)
  exact s_X6_init_0 hD (P := fun x => x = r) (fun q e => by rw [e]) h rfl
/-! PeerSearch$Cutter.<init>()V -/
theorem dX2_init_0 : decode cX2_init 0 = .ok (.aload_n 0, 1) := by decide +kernel
theorem dX2_init_1 : decode cX2_init 1 = .ok (.invokespecial 3, 3) := by decide +kernel
theorem dX2_init_4 : decode cX2_init 4 = .ok (.aload_n 0, 1) := by decide +kernel
theorem dX2_init_5 : decode cX2_init 5 = .ok (.sipush 6000, 3) := by decide +kernel
theorem dX2_init_8 : decode cX2_init 8 = .ok (.newarray .byte, 2) := by decide +kernel
theorem dX2_init_10 : decode cX2_init 10 = .ok (.putfield 9, 3) := by decide +kernel
theorem dX2_init_13 : decode cX2_init 13 = .ok (.aload_n 0, 1) := by decide +kernel
theorem dX2_init_14 : decode cX2_init 14 = .ok (.sipush 500, 3) := by decide +kernel
theorem dX2_init_17 : decode cX2_init 17 = .ok (.newarray .int, 2) := by decide +kernel
theorem dX2_init_19 : decode cX2_init 19 = .ok (.putfield 15, 3) := by decide +kernel
theorem dX2_init_22 : decode cX2_init 22 = .ok (.aload_n 0, 1) := by decide +kernel
theorem dX2_init_23 : decode cX2_init 23 = .ok (.sipush 500, 3) := by decide +kernel
theorem dX2_init_26 : decode cX2_init 26 = .ok (.newarray .int, 2) := by decide +kernel
theorem dX2_init_28 : decode cX2_init 28 = .ok (.putfield 19, 3) := by decide +kernel
theorem dX2_init_31 : decode cX2_init 31 = .ok (.return_, 1) := by decide +kernel
def f_X2_init (x0 : Int) (M : MM) : Option (MM) :=
  nn x0 <|
  (nar 273 6000 M).bind fun r1 =>
  (pfr 2 0 x0 r1.1 r1.2).bind fun M1 =>
  (nar 288 500 M1).bind fun r2 =>
  (pfr 2 1 x0 r2.1 r2.2).bind fun M2 =>
  (nar 304 500 M2).bind fun r3 =>
  (pfr 2 2 x0 r3.1 r3.2).bind fun M3 =>
  some M3
theorem s_X2_init_0 {g : GG} {d : Nat} (hD : 1 ≤ d) {x0 : Int} {M : MM} {o : AV × MM} {P : (MM) → Prop} (r0 : ∀ r : MM, P r → o = ((9, 0), r)) {z : MM} (h : f_X2_init x0 M = some z) (hz : P z) : Sem g d YX2_init 0 [(1, x0)] [] M o := by
  delta f_X2_init at h
  refine S_aload_n (i := 0) dX2_init_0 rfl rfl ?_
  refine P_obj q224 dX2_init_1 rfl (by omega) h (fun h => ?_)
  refine S_aload_n (i := 0) dX2_init_4 rfl rfl ?_
  refine S_sipush (z := 6000) dX2_init_5 rfl ?_
  refine P_nar (k := 273) (t := 0) (at' := .byte) (by decide) (by decide) rfl q247 dX2_init_8 h (fun r1 h => ?_)
  refine P_pfr FLX2_9 FPX2_9 (Or.inr ⟨_, rfl⟩) rfl dX2_init_10 h (fun M1 h => ?_)
  refine S_aload_n (i := 0) dX2_init_13 rfl rfl ?_
  refine S_sipush (z := 500) dX2_init_14 rfl ?_
  refine P_nar (k := 288) (t := 0) (at' := .int) (by decide) (by decide) rfl q248 dX2_init_17 h (fun r2 h => ?_)
  refine P_pfr FLX2_15 FPX2_15 (Or.inr ⟨_, rfl⟩) rfl dX2_init_19 h (fun M2 h => ?_)
  refine S_aload_n (i := 0) dX2_init_22 rfl rfl ?_
  refine S_sipush (z := 500) dX2_init_23 rfl ?_
  refine P_nar (k := 304) (t := 0) (at' := .int) (by decide) (by decide) rfl q248 dX2_init_26 h (fun r3 h => ?_)
  refine P_pfr FLX2_19 FPX2_19 (Or.inr ⟨_, rfl⟩) rfl dX2_init_28 h (fun M3 h => ?_)
  obtain rfl := r0 _ (some_P (P := fun r => P r) h hz)
  exact S_return dX2_init_31 rfl
theorem F_X2_init {g : GG} {d : Nat} (hD : 1 ≤ d) {x0 : Int} {M : MM} {r : MM} (h : f_X2_init x0 M = some r) : Sem g d YX2_init 0 (ini YX2_init [(1, x0)]) [] M ((9, 0), r) := by
  change Sem g d YX2_init 0 [(1, x0)] [] M ((9, 0), r)
  exact s_X2_init_0 hD (P := fun x => x = r) (fun q e => by rw [e]) h rfl
/-! PeerSearch$Ranking.<init>(I)V -/
theorem dX5_init_0 : decode cX5_init 0 = .ok (.aload_n 0, 1) := by decide +kernel
theorem dX5_init_1 : decode cX5_init 1 = .ok (.invokespecial 1, 3) := by decide +kernel
theorem dX5_init_4 : decode cX5_init 4 = .ok (.aload_n 0, 1) := by decide +kernel
theorem dX5_init_5 : decode cX5_init 5 = .ok (.iload_n 1, 1) := by decide +kernel
theorem dX5_init_6 : decode cX5_init 6 = .ok (.newarray .int, 2) := by decide +kernel
theorem dX5_init_8 : decode cX5_init 8 = .ok (.putfield 7, 3) := by decide +kernel
theorem dX5_init_11 : decode cX5_init 11 = .ok (.aload_n 0, 1) := by decide +kernel
theorem dX5_init_12 : decode cX5_init 12 = .ok (.iload_n 1, 1) := by decide +kernel
theorem dX5_init_13 : decode cX5_init 13 = .ok (.newarray .int, 2) := by decide +kernel
theorem dX5_init_15 : decode cX5_init 15 = .ok (.putfield 13, 3) := by decide +kernel
theorem dX5_init_18 : decode cX5_init 18 = .ok (.aload_n 0, 1) := by decide +kernel
theorem dX5_init_19 : decode cX5_init 19 = .ok (.iload_n 1, 1) := by decide +kernel
theorem dX5_init_20 : decode cX5_init 20 = .ok (.newarray .int, 2) := by decide +kernel
theorem dX5_init_22 : decode cX5_init 22 = .ok (.putfield 16, 3) := by decide +kernel
theorem dX5_init_25 : decode cX5_init 25 = .ok (.return_, 1) := by decide +kernel
def f_X5_init (x0 x1 : Int) (M : MM) : Option (MM) :=
  nn x0 <|
  (nar 320 x1 M).bind fun r1 =>
  (pfr 5 0 x0 r1.1 r1.2).bind fun M1 =>
  (nar 336 x1 M1).bind fun r2 =>
  (pfr 5 1 x0 r2.1 r2.2).bind fun M2 =>
  (nar 352 x1 M2).bind fun r3 =>
  (pfr 5 2 x0 r3.1 r3.2).bind fun M3 =>
  some M3
theorem s_X5_init_0 {g : GG} {d : Nat} (hD : 1 ≤ d) {x0 x1 : Int} {M : MM} {o : AV × MM} {P : (MM) → Prop} (r0 : ∀ r : MM, P r → o = ((9, 0), r)) {z : MM} (h : f_X5_init x0 x1 M = some z) (hz : P z) : Sem g d YX5_init 0 [(1, x0), (0, x1)] [] M o := by
  delta f_X5_init at h
  refine S_aload_n (i := 0) dX5_init_0 rfl rfl ?_
  refine P_obj q287 dX5_init_1 rfl (by omega) h (fun h => ?_)
  refine S_aload_n (i := 0) dX5_init_4 rfl rfl ?_
  refine S_iload_n (i := 1) dX5_init_5 rfl rfl ?_
  refine P_nar (k := 320) (t := 0) (at' := .int) (by decide) (by decide) rfl q248 dX5_init_6 h (fun r1 h => ?_)
  refine P_pfr FLX5_7 FPX5_7 (Or.inr ⟨_, rfl⟩) rfl dX5_init_8 h (fun M1 h => ?_)
  refine S_aload_n (i := 0) dX5_init_11 rfl rfl ?_
  refine S_iload_n (i := 1) dX5_init_12 rfl rfl ?_
  refine P_nar (k := 336) (t := 0) (at' := .int) (by decide) (by decide) rfl q248 dX5_init_13 h (fun r2 h => ?_)
  refine P_pfr FLX5_13 FPX5_13 (Or.inr ⟨_, rfl⟩) rfl dX5_init_15 h (fun M2 h => ?_)
  refine S_aload_n (i := 0) dX5_init_18 rfl rfl ?_
  refine S_iload_n (i := 1) dX5_init_19 rfl rfl ?_
  refine P_nar (k := 352) (t := 0) (at' := .int) (by decide) (by decide) rfl q248 dX5_init_20 h (fun r3 h => ?_)
  refine P_pfr FLX5_16 FPX5_16 (Or.inr ⟨_, rfl⟩) rfl dX5_init_22 h (fun M3 h => ?_)
  obtain rfl := r0 _ (some_P (P := fun r => P r) h hz)
  exact S_return dX5_init_25 rfl
theorem F_X5_init {g : GG} {d : Nat} (hD : 1 ≤ d) {x0 x1 : Int} {M : MM} {r : MM} (h : f_X5_init x0 x1 M = some r) : Sem g d YX5_init 0 (ini YX5_init [(1, x0), (0, x1)]) [] M ((9, 0), r) := by
  change Sem g d YX5_init 0 [(1, x0), (0, x1)] [] M ((9, 0), r)
  exact s_X5_init_0 hD (P := fun x => x = r) (fun q e => by rw [e]) h rfl
/-! PeerSearch$Plan.<init>()V -/
theorem dX12_init_0 : decode cX12_init 0 = .ok (.aload_n 0, 1) := by decide +kernel
theorem dX12_init_1 : decode cX12_init 1 = .ok (.invokespecial 1, 3) := by decide +kernel
theorem dX12_init_4 : decode cX12_init 4 = .ok (.return_, 1) := by decide +kernel
def f_X12_init (x0 : Int) (M : MM) : Option (MM) :=
  nn x0 <|
  some M
theorem s_X12_init_0 {g : GG} {d : Nat} (hD : 1 ≤ d) {x0 : Int} {M : MM} {o : AV × MM} {P : (MM) → Prop} (r0 : ∀ r : MM, P r → o = ((9, 0), r)) {z : MM} (h : f_X12_init x0 M = some z) (hz : P z) : Sem g d YX12_init 0 [(1, x0)] [] M o := by
  delta f_X12_init at h
  refine S_aload_n (i := 0) dX12_init_0 rfl rfl ?_
  refine P_obj q504 dX12_init_1 rfl (by omega) h (fun h => ?_)
  obtain rfl := r0 _ (some_P (P := fun r => P r) h hz)
  exact S_return dX12_init_4 rfl
theorem F_X12_init {g : GG} {d : Nat} (hD : 1 ≤ d) {x0 : Int} {M : MM} {r : MM} (h : f_X12_init x0 M = some r) : Sem g d YX12_init 0 (ini YX12_init [(1, x0)]) [] M ((9, 0), r) := by
  change Sem g d YX12_init 0 [(1, x0)] [] M ((9, 0), r)
  exact s_X12_init_0 hD (P := fun x => x = r) (fun q e => by rw [e]) h rfl
/-! PeerSearch$Joining.<init>()V -/
theorem dX13_init_0 : decode cX13_init 0 = .ok (.aload_n 0, 1) := by decide +kernel
theorem dX13_init_1 : decode cX13_init 1 = .ok (.invokespecial 1, 3) := by decide +kernel
theorem dX13_init_4 : decode cX13_init 4 = .ok (.return_, 1) := by decide +kernel
def f_X13_init (x0 : Int) (M : MM) : Option (MM) :=
  nn x0 <| (f_X12_init x0 M).bind fun M1 =>
  some M1
theorem s_X13_init_0 {g : GG} {d : Nat} (hD : 2 ≤ d) {x0 : Int} {M : MM} {o : AV × MM} {P : (MM) → Prop} (r0 : ∀ r : MM, P r → o = ((9, 0), r)) {z : MM} (h : f_X13_init x0 M = some z) (hz : P z) : Sem g d YX13_init 0 [(1, x0)] [] M o := by
  delta f_X13_init at h
  refine S_aload_n (i := 0) dX13_init_0 rfl rfl ?_
  refine P_invI' [] [] CIX12_init MLX13_1 dX13_init_1 rfl rfl rfl rfl (by omega) h (fun r h => F_X12_init (by omega) h) (fun M1 h => ?_)
  obtain rfl := r0 _ (some_P (P := fun r => P r) h hz)
  exact S_return dX13_init_4 rfl
theorem F_X13_init {g : GG} {d : Nat} (hD : 2 ≤ d) {x0 : Int} {M : MM} {r : MM} (h : f_X13_init x0 M = some r) : Sem g d YX13_init 0 (ini YX13_init [(1, x0)]) [] M ((9, 0), r) := by
  change Sem g d YX13_init 0 [(1, x0)] [] M ((9, 0), r)
  exact s_X13_init_0 hD (P := fun x => x = r) (fun q e => by rw [e]) h rfl
/-! PeerSearch$Looking.<init>()V -/
theorem dX14_init_0 : decode cX14_init 0 = .ok (.aload_n 0, 1) := by decide +kernel
theorem dX14_init_1 : decode cX14_init 1 = .ok (.invokespecial 1, 3) := by decide +kernel
theorem dX14_init_4 : decode cX14_init 4 = .ok (.return_, 1) := by decide +kernel
def f_X14_init (x0 : Int) (M : MM) : Option (MM) :=
  nn x0 <| (f_X12_init x0 M).bind fun M1 =>
  some M1
theorem s_X14_init_0 {g : GG} {d : Nat} (hD : 2 ≤ d) {x0 : Int} {M : MM} {o : AV × MM} {P : (MM) → Prop} (r0 : ∀ r : MM, P r → o = ((9, 0), r)) {z : MM} (h : f_X14_init x0 M = some z) (hz : P z) : Sem g d YX14_init 0 [(1, x0)] [] M o := by
  delta f_X14_init at h
  refine S_aload_n (i := 0) dX14_init_0 rfl rfl ?_
  refine P_invI' [] [] CIX12_init MLX14_1 dX14_init_1 rfl rfl rfl rfl (by omega) h (fun r h => F_X12_init (by omega) h) (fun M1 h => ?_)
  obtain rfl := r0 _ (some_P (P := fun r => P r) h hz)
  exact S_return dX14_init_4 rfl
theorem F_X14_init {g : GG} {d : Nat} (hD : 2 ≤ d) {x0 : Int} {M : MM} {r : MM} (h : f_X14_init x0 M = some r) : Sem g d YX14_init 0 (ini YX14_init [(1, x0)]) [] M ((9, 0), r) := by
  change Sem g d YX14_init 0 [(1, x0)] [] M ((9, 0), r)
  exact s_X14_init_0 hD (P := fun x => x = r) (fun q e => by rw [e]) h rfl
/-! PeerSearch$Lookup.<init>(I)V -/
theorem dX15_init_0 : decode cX15_init 0 = .ok (.aload_n 0, 1) := by decide +kernel
theorem dX15_init_1 : decode cX15_init 1 = .ok (.invokespecial 3, 3) := by decide +kernel
theorem dX15_init_4 : decode cX15_init 4 = .ok (.aload_n 0, 1) := by decide +kernel
theorem dX15_init_5 : decode cX15_init 5 = .ok (.bipush 65, 2) := by decide +kernel
theorem dX15_init_7 : decode cX15_init 7 = .ok (.anewarray 9, 3) := by decide +kernel
theorem dX15_init_10 : decode cX15_init 10 = .ok (.putfield 11, 3) := by decide +kernel
theorem dX15_init_13 : decode cX15_init 13 = .ok (.aload_n 0, 1) := by decide +kernel
theorem dX15_init_14 : decode cX15_init 14 = .ok (.new 17, 3) := by decide +kernel
theorem dX15_init_17 : decode cX15_init 17 = .ok (.dup, 1) := by decide +kernel
theorem dX15_init_18 : decode cX15_init 18 = .ok (.invokespecial 19, 3) := by decide +kernel
theorem dX15_init_21 : decode cX15_init 21 = .ok (.putfield 20, 3) := by decide +kernel
theorem dX15_init_24 : decode cX15_init 24 = .ok (.aload_n 0, 1) := by decide +kernel
theorem dX15_init_25 : decode cX15_init 25 = .ok (.iload_n 1, 1) := by decide +kernel
theorem dX15_init_26 : decode cX15_init 26 = .ok (.putfield 24, 3) := by decide +kernel
theorem dX15_init_29 : decode cX15_init 29 = .ok (.return_, 1) := by decide +kernel
def f_X15_init (x0 x1 : Int) (M : MM) : Option (MM) :=
  nn x0 <|
  (nar 376 65 M).bind fun r1 =>
  (pfr 15 0 x0 r1.1 r1.2).bind fun M1 =>
  (nob 3 1 12 M1).bind fun r2 =>
  nn r2.1 <| (f_X3_init r2.1 r2.2).bind fun M2 =>
  (pfr 15 1 x0 r2.1 M2).bind fun M3 =>
  (pfi 15 2 x0 x1 M3).bind fun M4 =>
  some M4
theorem s_X15_init_0 {g : GG} {d : Nat} (hD : 2 ≤ d) {x0 x1 : Int} {M : MM} {o : AV × MM} {P : (MM) → Prop} (r0 : ∀ r : MM, P r → o = ((9, 0), r)) {z : MM} (h : f_X15_init x0 x1 M = some z) (hz : P z) : Sem g d YX15_init 0 [(1, x0), (0, x1)] [] M o := by
  delta f_X15_init at h
  refine S_aload_n (i := 0) dX15_init_0 rfl rfl ?_
  refine P_obj q527 dX15_init_1 rfl (by omega) h (fun h => ?_)
  refine S_aload_n (i := 0) dX15_init_4 rfl rfl ?_
  refine S_bipush (z := 65) dX15_init_5 rfl ?_
  refine P_naa (k := 376) (by decide) ⟨by decide, by decide⟩ q528 dX15_init_7 h (fun r1 h => ?_)
  refine P_pfr FLX15_11 FPX15_11 (Or.inr ⟨_, rfl⟩) rfl dX15_init_10 h (fun M1 h => ?_)
  refine S_aload_n (i := 0) dX15_init_13 rfl rfl ?_
  refine P_nob NLX15_17 rfl dX15_init_14 h (fun r2 h => ?_)
  refine S_dup dX15_init_17 (Nat.le_of_ble_eq_true rfl) ?_
  refine P_invI' [] [(1, r2.1), (1, x0)] CIX3_init MLX15_19 dX15_init_18 rfl rfl rfl rfl (by omega) h (fun r h => F_X3_init (by omega) h) (fun M2 h => ?_)
  refine P_pfr FLX15_20 FPX15_20 (Or.inl ⟨_, rfl⟩) rfl dX15_init_21 h (fun M3 h => ?_)
  refine S_aload_n (i := 0) dX15_init_24 rfl rfl ?_
  refine S_iload_n (i := 1) dX15_init_25 rfl rfl ?_
  refine P_pfi FLX15_24 FPX15_24 rfl dX15_init_26 h (fun M4 h => ?_)
  obtain rfl := r0 _ (some_P (P := fun r => P r) h hz)
  exact S_return dX15_init_29 rfl
theorem F_X15_init {g : GG} {d : Nat} (hD : 2 ≤ d) {x0 x1 : Int} {M : MM} {r : MM} (h : f_X15_init x0 x1 M = some r) : Sem g d YX15_init 0 (ini YX15_init [(1, x0), (0, x1)]) [] M ((9, 0), r) := by
  change Sem g d YX15_init 0 [(1, x0), (0, x1)] [] M ((9, 0), r)
  exact s_X15_init_0 hD (P := fun x => x = r) (fun q e => by rw [e]) h rfl
/-! PeerSearch$Work.<init>(LPeerSearch$Board;)V -/
theorem dX11_init_0 : decode cX11_init 0 = .ok (.aload_n 0, 1) := by decide +kernel
theorem dX11_init_1 : decode cX11_init 1 = .ok (.invokespecial 3, 3) := by decide +kernel
theorem dX11_init_4 : decode cX11_init 4 = .ok (.aload_n 0, 1) := by decide +kernel
theorem dX11_init_5 : decode cX11_init 5 = .ok (.new 9, 3) := by decide +kernel
theorem dX11_init_8 : decode cX11_init 8 = .ok (.dup, 1) := by decide +kernel
theorem dX11_init_9 : decode cX11_init 9 = .ok (.invokespecial 11, 3) := by decide +kernel
theorem dX11_init_12 : decode cX11_init 12 = .ok (.putfield 12, 3) := by decide +kernel
theorem dX11_init_15 : decode cX11_init 15 = .ok (.aload_n 0, 1) := by decide +kernel
theorem dX11_init_16 : decode cX11_init 16 = .ok (.new 18, 3) := by decide +kernel
theorem dX11_init_19 : decode cX11_init 19 = .ok (.dup, 1) := by decide +kernel
theorem dX11_init_20 : decode cX11_init 20 = .ok (.invokespecial 20, 3) := by decide +kernel
theorem dX11_init_23 : decode cX11_init 23 = .ok (.putfield 21, 3) := by decide +kernel
theorem dX11_init_26 : decode cX11_init 26 = .ok (.aload_n 0, 1) := by decide +kernel
theorem dX11_init_27 : decode cX11_init 27 = .ok (.new 25, 3) := by decide +kernel
theorem dX11_init_30 : decode cX11_init 30 = .ok (.dup, 1) := by decide +kernel
theorem dX11_init_31 : decode cX11_init 31 = .ok (.invokespecial 27, 3) := by decide +kernel
theorem dX11_init_34 : decode cX11_init 34 = .ok (.putfield 28, 3) := by decide +kernel
theorem dX11_init_37 : decode cX11_init 37 = .ok (.aload_n 0, 1) := by decide +kernel
theorem dX11_init_38 : decode cX11_init 38 = .ok (.aload_n 1, 1) := by decide +kernel
theorem dX11_init_39 : decode cX11_init 39 = .ok (.putfield 32, 3) := by decide +kernel
theorem dX11_init_42 : decode cX11_init 42 = .ok (.aload_n 0, 1) := by decide +kernel
theorem dX11_init_43 : decode cX11_init 43 = .ok (.new 36, 3) := by decide +kernel
theorem dX11_init_46 : decode cX11_init 46 = .ok (.dup, 1) := by decide +kernel
theorem dX11_init_47 : decode cX11_init 47 = .ok (.aload_n 1, 1) := by decide +kernel
theorem dX11_init_48 : decode cX11_init 48 = .ok (.getfield 38, 3) := by decide +kernel
theorem dX11_init_51 : decode cX11_init 51 = .ok (.invokespecial 44, 3) := by decide +kernel
theorem dX11_init_54 : decode cX11_init 54 = .ok (.putfield 47, 3) := by decide +kernel
theorem dX11_init_57 : decode cX11_init 57 = .ok (.return_, 1) := by decide +kernel
def f_X11_init (x0 x1 : Int) (M : MM) : Option (MM) :=
  nn x0 <|
  (nob 3 1 13 M).bind fun r1 =>
  nn r1.1 <| (f_X3_init r1.1 r1.2).bind fun M1 =>
  (pfr 11 7 x0 r1.1 M1).bind fun M2 =>
  (nob 13 3 14 M2).bind fun r2 =>
  nn r2.1 <| (f_X13_init r2.1 r2.2).bind fun M3 =>
  (pfr 11 8 x0 r2.1 M3).bind fun M4 =>
  (nob 14 0 15 M4).bind fun r3 =>
  nn r3.1 <| (f_X14_init r3.1 r3.2).bind fun M5 =>
  (pfr 11 9 x0 r3.1 M5).bind fun M6 =>
  (pfr 11 0 x0 x1 M6).bind fun M7 =>
  (nob 15 6 16 M7).bind fun r4 =>
  (gfi 6 0 x1 r4.2).bind fun v1 =>
  nn r4.1 <| (f_X15_init r4.1 v1 r4.2).bind fun M8 =>
  (pfr 11 1 x0 r4.1 M8).bind fun M9 =>
  some M9
theorem s_X11_init_0 {g : GG} {d : Nat} (hD : 3 ≤ d) {x0 x1 : Int} {M : MM} {o : AV × MM} {P : (MM) → Prop} (r0 : ∀ r : MM, P r → o = ((9, 0), r)) {z : MM} (h : f_X11_init x0 x1 M = some z) (hz : P z) : Sem g d YX11_init 0 [(1, x0), (1, x1)] [] M o := by
  delta f_X11_init at h
  refine S_aload_n (i := 0) dX11_init_0 rfl rfl ?_
  refine P_obj q493 dX11_init_1 rfl (by omega) h (fun h => ?_)
  refine S_aload_n (i := 0) dX11_init_4 rfl rfl ?_
  refine P_nob NLX11_9 rfl dX11_init_5 h (fun r1 h => ?_)
  refine S_dup dX11_init_8 (Nat.le_of_ble_eq_true rfl) ?_
  refine P_invI' [] [(1, r1.1), (1, x0)] CIX3_init MLX11_11 dX11_init_9 rfl rfl rfl rfl (by omega) h (fun r h => F_X3_init (by omega) h) (fun M1 h => ?_)
  refine P_pfr FLX11_12 FPX11_12 (Or.inl ⟨_, rfl⟩) rfl dX11_init_12 h (fun M2 h => ?_)
  refine S_aload_n (i := 0) dX11_init_15 rfl rfl ?_
  refine P_nob NLX11_18 rfl dX11_init_16 h (fun r2 h => ?_)
  refine S_dup dX11_init_19 (Nat.le_of_ble_eq_true rfl) ?_
  refine P_invI' [] [(1, r2.1), (1, x0)] CIX13_init MLX11_20 dX11_init_20 rfl rfl rfl rfl (by omega) h (fun r h => F_X13_init (by omega) h) (fun M3 h => ?_)
  refine P_pfr FLX11_21 FPX11_21 (Or.inl ⟨_, rfl⟩) rfl dX11_init_23 h (fun M4 h => ?_)
  refine S_aload_n (i := 0) dX11_init_26 rfl rfl ?_
  refine P_nob NLX11_25 rfl dX11_init_27 h (fun r3 h => ?_)
  refine S_dup dX11_init_30 (Nat.le_of_ble_eq_true rfl) ?_
  refine P_invI' [] [(1, r3.1), (1, x0)] CIX14_init MLX11_27 dX11_init_31 rfl rfl rfl rfl (by omega) h (fun r h => F_X14_init (by omega) h) (fun M5 h => ?_)
  refine P_pfr FLX11_28 FPX11_28 (Or.inl ⟨_, rfl⟩) rfl dX11_init_34 h (fun M6 h => ?_)
  refine S_aload_n (i := 0) dX11_init_37 rfl rfl ?_
  refine S_aload_n (i := 1) dX11_init_38 rfl rfl ?_
  refine P_pfr FLX11_32 FPX11_32 (Or.inl ⟨_, rfl⟩) rfl dX11_init_39 h (fun M7 h => ?_)
  refine S_aload_n (i := 0) dX11_init_42 rfl rfl ?_
  refine P_nob NLX11_36 rfl dX11_init_43 h (fun r4 h => ?_)
  refine S_dup dX11_init_46 (Nat.le_of_ble_eq_true rfl) ?_
  refine S_aload_n (i := 1) dX11_init_47 rfl rfl ?_
  refine P_gfi FLX11_38 rfl dX11_init_48 h (fun v1 h => ?_)
  refine P_invI' [(0, v1)] [(1, r4.1), (1, x0)] CIX15_init MLX11_44 dX11_init_51 rfl rfl rfl rfl (by omega) h (fun r h => F_X15_init (by omega) h) (fun M8 h => ?_)
  refine P_pfr FLX11_47 FPX11_47 (Or.inl ⟨_, rfl⟩) rfl dX11_init_54 h (fun M9 h => ?_)
  obtain rfl := r0 _ (some_P (P := fun r => P r) h hz)
  exact S_return dX11_init_57 rfl
theorem F_X11_init {g : GG} {d : Nat} (hD : 3 ≤ d) {x0 x1 : Int} {M : MM} {r : MM} (h : f_X11_init x0 x1 M = some r) : Sem g d YX11_init 0 (ini YX11_init [(1, x0), (1, x1)]) [] M ((9, 0), r) := by
  change Sem g d YX11_init 0 [(1, x0), (1, x1)] [] M ((9, 0), r)
  exact s_X11_init_0 hD (P := fun x => x = r) (fun q e => by rw [e]) h rfl
/-! PeerSearch.<init>(II)V -/
theorem dX1_init_0 : decode cX1_init 0 = .ok (.aload_n 0, 1) := by decide +kernel
theorem dX1_init_1 : decode cX1_init 1 = .ok (.invokespecial 1, 3) := by decide +kernel
theorem dX1_init_4 : decode cX1_init 4 = .ok (.aload_n 0, 1) := by decide +kernel
theorem dX1_init_5 : decode cX1_init 5 = .ok (.bipush 20, 2) := by decide +kernel
theorem dX1_init_7 : decode cX1_init 7 = .ok (.newarray .byte, 2) := by decide +kernel
theorem dX1_init_9 : decode cX1_init 9 = .ok (.putfield 9, 3) := by decide +kernel
theorem dX1_init_12 : decode cX1_init 12 = .ok (.aload_n 0, 1) := by decide +kernel
theorem dX1_init_13 : decode cX1_init 13 = .ok (.sipush 500, 3) := by decide +kernel
theorem dX1_init_16 : decode cX1_init 16 = .ok (.newarray .byte, 2) := by decide +kernel
theorem dX1_init_18 : decode cX1_init 18 = .ok (.putfield 13, 3) := by decide +kernel
theorem dX1_init_21 : decode cX1_init 21 = .ok (.aload_n 0, 1) := by decide +kernel
theorem dX1_init_22 : decode cX1_init 22 = .ok (.bipush 12, 2) := by decide +kernel
theorem dX1_init_24 : decode cX1_init 24 = .ok (.newarray .byte, 2) := by decide +kernel
theorem dX1_init_26 : decode cX1_init 26 = .ok (.putfield 16, 3) := by decide +kernel
theorem dX1_init_29 : decode cX1_init 29 = .ok (.aload_n 0, 1) := by decide +kernel
theorem dX1_init_30 : decode cX1_init 30 = .ok (.bipush 12, 2) := by decide +kernel
theorem dX1_init_32 : decode cX1_init 32 = .ok (.anewarray 19, 3) := by decide +kernel
theorem dX1_init_35 : decode cX1_init 35 = .ok (.putfield 21, 3) := by decide +kernel
theorem dX1_init_38 : decode cX1_init 38 = .ok (.aload_n 0, 1) := by decide +kernel
theorem dX1_init_39 : decode cX1_init 39 = .ok (.sipush 256, 3) := by decide +kernel
theorem dX1_init_42 : decode cX1_init 42 = .ok (.anewarray 25, 3) := by decide +kernel
theorem dX1_init_45 : decode cX1_init 45 = .ok (.putfield 27, 3) := by decide +kernel
theorem dX1_init_48 : decode cX1_init 48 = .ok (.aload_n 0, 1) := by decide +kernel
theorem dX1_init_49 : decode cX1_init 49 = .ok (.new 31, 3) := by decide +kernel
theorem dX1_init_52 : decode cX1_init 52 = .ok (.dup, 1) := by decide +kernel
theorem dX1_init_53 : decode cX1_init 53 = .ok (.invokespecial 33, 3) := by decide +kernel
theorem dX1_init_56 : decode cX1_init 56 = .ok (.putfield 34, 3) := by decide +kernel
theorem dX1_init_59 : decode cX1_init 59 = .ok (.aload_n 0, 1) := by decide +kernel
theorem dX1_init_60 : decode cX1_init 60 = .ok (.new 38, 3) := by decide +kernel
theorem dX1_init_63 : decode cX1_init 63 = .ok (.dup, 1) := by decide +kernel
theorem dX1_init_64 : decode cX1_init 64 = .ok (.invokespecial 40, 3) := by decide +kernel
theorem dX1_init_67 : decode cX1_init 67 = .ok (.putfield 41, 3) := by decide +kernel
theorem dX1_init_70 : decode cX1_init 70 = .ok (.aload_n 0, 1) := by decide +kernel
theorem dX1_init_71 : decode cX1_init 71 = .ok (.new 45, 3) := by decide +kernel
theorem dX1_init_74 : decode cX1_init 74 = .ok (.dup, 1) := by decide +kernel
theorem dX1_init_75 : decode cX1_init 75 = .ok (.invokespecial 47, 3) := by decide +kernel
theorem dX1_init_78 : decode cX1_init 78 = .ok (.putfield 48, 3) := by decide +kernel
theorem dX1_init_81 : decode cX1_init 81 = .ok (.aload_n 0, 1) := by decide +kernel
theorem dX1_init_82 : decode cX1_init 82 = .ok (.new 52, 3) := by decide +kernel
theorem dX1_init_85 : decode cX1_init 85 = .ok (.dup, 1) := by decide +kernel
theorem dX1_init_86 : decode cX1_init 86 = .ok (.sipush 512, 3) := by decide +kernel
theorem dX1_init_89 : decode cX1_init 89 = .ok (.invokespecial 54, 3) := by decide +kernel
theorem dX1_init_92 : decode cX1_init 92 = .ok (.putfield 57, 3) := by decide +kernel
theorem dX1_init_95 : decode cX1_init 95 = .ok (.aload_n 0, 1) := by decide +kernel
theorem dX1_init_96 : decode cX1_init 96 = .ok (.new 61, 3) := by decide +kernel
theorem dX1_init_99 : decode cX1_init 99 = .ok (.dup, 1) := by decide +kernel
theorem dX1_init_100 : decode cX1_init 100 = .ok (.iload_n 1, 1) := by decide +kernel
theorem dX1_init_101 : decode cX1_init 101 = .ok (.iconst 1, 1) := by decide +kernel
theorem dX1_init_102 : decode cX1_init 102 = .ok (.bipush 20, 2) := by decide +kernel
theorem dX1_init_104 : decode cX1_init 104 = .ok (.invokestatic 63, 3) := by decide +kernel
theorem dX1_init_107 : decode cX1_init 107 = .ok (.iload_n 2, 1) := by decide +kernel
theorem dX1_init_108 : decode cX1_init 108 = .ok (.iconst 1, 1) := by decide +kernel
theorem dX1_init_109 : decode cX1_init 109 = .ok (.bipush 8, 2) := by decide +kernel
theorem dX1_init_111 : decode cX1_init 111 = .ok (.invokestatic 63, 3) := by decide +kernel
theorem dX1_init_114 : decode cX1_init 114 = .ok (.invokespecial 67, 3) := by decide +kernel
theorem dX1_init_117 : decode cX1_init 117 = .ok (.putfield 70, 3) := by decide +kernel
theorem dX1_init_120 : decode cX1_init 120 = .ok (.aload_n 0, 1) := by decide +kernel
theorem dX1_init_121 : decode cX1_init 121 = .ok (.aload_n 0, 1) := by decide +kernel
theorem dX1_init_122 : decode cX1_init 122 = .ok (.getfield 70, 3) := by decide +kernel
theorem dX1_init_125 : decode cX1_init 125 = .ok (.getfield 74, 3) := by decide +kernel
theorem dX1_init_128 : decode cX1_init 128 = .ok (.putfield 78, 3) := by decide +kernel
theorem dX1_init_131 : decode cX1_init 131 = .ok (.iconst 0, 1) := by decide +kernel
theorem dX1_init_132 : decode cX1_init 132 = .ok (.istore_n 3, 1) := by decide +kernel
theorem dX1_init_133 : decode cX1_init 133 = .ok (.iload_n 3, 1) := by decide +kernel
theorem dX1_init_134 : decode cX1_init 134 = .ok (.bipush 12, 2) := by decide +kernel
theorem dX1_init_136 : decode cX1_init 136 = .ok (.if_icmp .ge 26, 3) := by decide +kernel
theorem dX1_init_139 : decode cX1_init 139 = .ok (.aload_n 0, 1) := by decide +kernel
theorem dX1_init_140 : decode cX1_init 140 = .ok (.getfield 21, 3) := by decide +kernel
theorem dX1_init_143 : decode cX1_init 143 = .ok (.iload_n 3, 1) := by decide +kernel
theorem dX1_init_144 : decode cX1_init 144 = .ok (.new 19, 3) := by decide +kernel
theorem dX1_init_147 : decode cX1_init 147 = .ok (.dup, 1) := by decide +kernel
theorem dX1_init_148 : decode cX1_init 148 = .ok (.aload_n 0, 1) := by decide +kernel
theorem dX1_init_149 : decode cX1_init 149 = .ok (.getfield 70, 3) := by decide +kernel
theorem dX1_init_152 : decode cX1_init 152 = .ok (.invokespecial 79, 3) := by decide +kernel
theorem dX1_init_155 : decode cX1_init 155 = .ok (.aastore, 1) := by decide +kernel
theorem dX1_init_156 : decode cX1_init 156 = .ok (.iinc 3 1, 3) := by decide +kernel
theorem dX1_init_159 : decode cX1_init 159 = .ok (.goto (-26), 3) := by decide +kernel
theorem dX1_init_162 : decode cX1_init 162 = .ok (.return_, 1) := by decide +kernel
def b_X1_init_133 (x0 x3 : Int) (M : MM) : Option ((Int × MM) ⊕ (MM)) :=
  if w32 x3 < w32 12 then
    (gfr 1 6 x0 M).bind fun v1 =>
    (nob 11 12 17 M).bind fun r1 =>
    (gfr 1 0 x0 r1.2).bind fun v2 =>
    nn r1.1 <| (f_X11_init r1.1 v2 r1.2).bind fun M1 =>
    (sar 3 v1 x3 r1.1 M1).bind fun M2 =>
    cnt (x3 + 1, M2)
  else
    xit (some M)
def l_X1_init_133 (x0 x3 : Int) (M : MM) : Option (MM) := lpN (fun s : Int × MM => b_X1_init_133 x0 s.1 s.2) FU (x3, M)
def j_X1_init_131 (x0 : Int) (M : MM) : Option (MM) :=
  l_X1_init_133 x0 0 M
def f_X1_init (x0 x1 x2 : Int) (M : MM) : Option (MM) :=
  nn x0 <|
  (nar 385 20 M).bind fun r1 =>
  (pfr 1 2 x0 r1.1 r1.2).bind fun M1 =>
  (nar 401 500 M1).bind fun r2 =>
  (pfr 1 3 x0 r2.1 r2.2).bind fun M2 =>
  (nar 417 12 M2).bind fun r3 =>
  (pfr 1 4 x0 r3.1 r3.2).bind fun M3 =>
  (nar 435 12 M3).bind fun r4 =>
  (pfr 1 6 x0 r4.1 r4.2).bind fun M4 =>
  (nar 452 256 M4).bind fun r5 =>
  (pfr 1 7 x0 r5.1 r5.2).bind fun M5 =>
  (nob 2 4 18 M5).bind fun r6 =>
  nn r6.1 <| (f_X2_init r6.1 r6.2).bind fun M6 =>
  (pfr 1 9 x0 r6.1 M6).bind fun M7 =>
  (nob 3 1 19 M7).bind fun r7 =>
  nn r7.1 <| (f_X3_init r7.1 r7.2).bind fun M8 =>
  (pfr 1 10 x0 r7.1 M8).bind fun M9 =>
  (nob 4 2 20 M9).bind fun r8 =>
  nn r8.1 <| (f_X4_init r8.1 r8.2).bind fun M10 =>
  (pfr 1 11 x0 r8.1 M10).bind fun M11 =>
  (nob 5 4 21 M11).bind fun r9 =>
  nn r9.1 <| (f_X5_init r9.1 512 r9.2).bind fun M12 =>
  (pfr 1 12 x0 r9.1 M12).bind fun M13 =>
  (nob 6 15 22 M13).bind fun r10 =>
  (f_X1_within x1 1 20).bind fun v1 =>
  (f_X1_within x2 1 8).bind fun v2 =>
  nn r10.1 <| (f_X6_init r10.1 v1 v2 r10.2).bind fun M14 =>
  (pfr 1 0 x0 r10.1 M14).bind fun M15 =>
  (gfr 1 0 x0 M15).bind fun v3 =>
  (gfr 6 2 v3 M15).bind fun v4 =>
  (pfr 1 1 x0 v4 M15).bind fun M16 =>
  j_X1_init_131 x0 M16
theorem s_X1_init_133 {g : GG} {d : Nat} (hD : 4 ≤ d) {x0 x3 : Int} {M : MM} {o : AV × MM} {P : ((Int × MM) ⊕ (MM)) → Prop} (c0 : ∀ s : Int × MM, P (.inl s) → Sem g d YX1_init 133 [(1, x0), (9, 0), (9, 0), (0, s.1)] [] s.2 o) (r0 : ∀ r : MM, P (.inr r) → o = ((9, 0), r)) {z : (Int × MM) ⊕ (MM)} (h : b_X1_init_133 x0 x3 M = some z) (hz : P z) : Sem g d YX1_init 133 [(1, x0), (9, 0), (9, 0), (0, x3)] [] M o := by
  delta b_X1_init_133 at h
  refine S_iload_n (i := 3) dX1_init_133 rfl rfl ?_
  refine S_bipush (z := 12) dX1_init_134 rfl ?_
  refine P_icmp_ge (tgt := 162) dX1_init_136 rfl h (fun h => ?_) (fun h => ?_)
  · obtain ⟨z0, h, hz⟩ := xit_some' (P := fun r => P r) h hz
    obtain rfl := r0 _ (some_P (P := fun r => P (.inr r)) h hz)
    exact S_return dX1_init_162 rfl
  · refine S_aload_n (i := 0) dX1_init_139 rfl rfl ?_
    refine P_gfr FLX1_21 rfl dX1_init_140 h (fun v1 h => ?_)
    refine S_iload_n (i := 3) dX1_init_143 rfl rfl ?_
    refine P_nob NLX1_19 rfl dX1_init_144 h (fun r1 h => ?_)
    refine S_dup dX1_init_147 (Nat.le_of_ble_eq_true rfl) ?_
    refine S_aload_n (i := 0) dX1_init_148 rfl rfl ?_
    refine P_gfr FLX1_70 rfl dX1_init_149 h (fun v2 h => ?_)
    refine P_invI' [(1, v2)] [(1, r1.1), (0, x3), (1, v1)] CIX11_init MLX1_79 dX1_init_152 rfl rfl rfl rfl (by omega) h (fun r h => F_X11_init (by omega) h) (fun M1 h => ?_)
    refine P_sar (t := 3) ⟨by decide, by decide⟩ dX1_init_155 h (fun M2 h => ?_)
    refine S_iinc dX1_init_156 rfl rfl rfl ?_
    change Sem g d YX1_init 159 [(1, x0), (9, 0), (9, 0), (0, x3 + 1)] [] M2 o
    refine S_goto (tgt := 133) dX1_init_159 rfl ?_
    exact c0 (x3 + 1, M2) (some_P (P := fun r => P r) h hz)
theorem sl_X1_init_133 {g : GG} {d : Nat} (hD : 4 ≤ d) {x0 x3 : Int} {M : MM} {o : AV × MM} {P : (MM) → Prop} (r0 : ∀ r : MM, P r → o = ((9, 0), r)) {z : MM} (h : l_X1_init_133 x0 x3 M = some z) (hz : P z) : Sem g d YX1_init 133 [(1, x0), (9, 0), (9, 0), (0, x3)] [] M o := by
  refine lp_sound (S := fun s : Int × MM => Sem g d YX1_init 133 [(1, x0), (9, 0), (9, 0), (0, s.1)] [] s.2 o) (P := P) ?_ FU (x3, M) z h hz
  intro s x hx hP
  exact s_X1_init_133 hD (P := Sum.elim (fun s : Int × MM => Sem g d YX1_init 133 [(1, x0), (9, 0), (9, 0), (0, s.1)] [] s.2 o) P) (fun s h => h) (fun s h => r0 s h) hx hP
theorem s_X1_init_131 {g : GG} {d : Nat} (hD : 4 ≤ d) {x0 : Int} {M : MM} {o : AV × MM} {P : (MM) → Prop} (r0 : ∀ r : MM, P r → o = ((9, 0), r)) {z : MM} (h : j_X1_init_131 x0 M = some z) (hz : P z) : Sem g d YX1_init 131 [(1, x0), (9, 0), (9, 0), (9, 0)] [] M o := by
  delta j_X1_init_131 at h
  refine S_iconst dX1_init_131 rfl ?_
  refine S_istore_n (i := 3) dX1_init_132 rfl (Nat.le_of_ble_eq_true rfl) rfl rfl ?_
  change Sem g d YX1_init 133 [(1, x0), (9, 0), (9, 0), (0, 0)] [] M o
  exact sl_X1_init_133 hD r0 h hz
theorem s_X1_init_0 {g : GG} {d : Nat} (hD : 4 ≤ d) {x0 x1 x2 : Int} {M : MM} {o : AV × MM} {P : (MM) → Prop} (r0 : ∀ r : MM, P r → o = ((9, 0), r)) {z : MM} (h : f_X1_init x0 x1 x2 M = some z) (hz : P z) : Sem g d YX1_init 0 [(1, x0), (0, x1), (0, x2), (9, 0)] [] M o := by
  delta f_X1_init at h
  refine S_aload_n (i := 0) dX1_init_0 rfl rfl ?_
  refine P_obj q212 dX1_init_1 rfl (by omega) h (fun h => ?_)
  refine S_aload_n (i := 0) dX1_init_4 rfl rfl ?_
  refine S_bipush (z := 20) dX1_init_5 rfl ?_
  refine P_nar (k := 385) (t := 0) (at' := .byte) (by decide) (by decide) rfl q247 dX1_init_7 h (fun r1 h => ?_)
  refine P_pfr FLX1_9 FPX1_9 (Or.inr ⟨_, rfl⟩) rfl dX1_init_9 h (fun M1 h => ?_)
  refine S_aload_n (i := 0) dX1_init_12 rfl rfl ?_
  refine S_sipush (z := 500) dX1_init_13 rfl ?_
  refine P_nar (k := 401) (t := 0) (at' := .byte) (by decide) (by decide) rfl q247 dX1_init_16 h (fun r2 h => ?_)
  refine P_pfr FLX1_13 FPX1_13 (Or.inr ⟨_, rfl⟩) rfl dX1_init_18 h (fun M2 h => ?_)
  refine S_aload_n (i := 0) dX1_init_21 rfl rfl ?_
  refine S_bipush (z := 12) dX1_init_22 rfl ?_
  refine P_nar (k := 417) (t := 0) (at' := .byte) (by decide) (by decide) rfl q247 dX1_init_24 h (fun r3 h => ?_)
  refine P_pfr FLX1_16 FPX1_16 (Or.inr ⟨_, rfl⟩) rfl dX1_init_26 h (fun M3 h => ?_)
  refine S_aload_n (i := 0) dX1_init_29 rfl rfl ?_
  refine S_bipush (z := 12) dX1_init_30 rfl ?_
  refine P_naa (k := 435) (by decide) ⟨by decide, by decide⟩ q215 dX1_init_32 h (fun r4 h => ?_)
  refine P_pfr FLX1_21 FPX1_21 (Or.inr ⟨_, rfl⟩) rfl dX1_init_35 h (fun M4 h => ?_)
  refine S_aload_n (i := 0) dX1_init_38 rfl rfl ?_
  refine S_sipush (z := 256) dX1_init_39 rfl ?_
  refine P_naa (k := 452) (by decide) ⟨by decide, by decide⟩ q217 dX1_init_42 h (fun r5 h => ?_)
  refine P_pfr FLX1_27 FPX1_27 (Or.inr ⟨_, rfl⟩) rfl dX1_init_45 h (fun M5 h => ?_)
  refine S_aload_n (i := 0) dX1_init_48 rfl rfl ?_
  refine P_nob NLX1_31 rfl dX1_init_49 h (fun r6 h => ?_)
  refine S_dup dX1_init_52 (Nat.le_of_ble_eq_true rfl) ?_
  refine P_invI' [] [(1, r6.1), (1, x0)] CIX2_init MLX1_33 dX1_init_53 rfl rfl rfl rfl (by omega) h (fun r h => F_X2_init (by omega) h) (fun M6 h => ?_)
  refine P_pfr FLX1_34 FPX1_34 (Or.inl ⟨_, rfl⟩) rfl dX1_init_56 h (fun M7 h => ?_)
  refine S_aload_n (i := 0) dX1_init_59 rfl rfl ?_
  refine P_nob NLX1_38 rfl dX1_init_60 h (fun r7 h => ?_)
  refine S_dup dX1_init_63 (Nat.le_of_ble_eq_true rfl) ?_
  refine P_invI' [] [(1, r7.1), (1, x0)] CIX3_init MLX1_40 dX1_init_64 rfl rfl rfl rfl (by omega) h (fun r h => F_X3_init (by omega) h) (fun M8 h => ?_)
  refine P_pfr FLX1_41 FPX1_41 (Or.inl ⟨_, rfl⟩) rfl dX1_init_67 h (fun M9 h => ?_)
  refine S_aload_n (i := 0) dX1_init_70 rfl rfl ?_
  refine P_nob NLX1_45 rfl dX1_init_71 h (fun r8 h => ?_)
  refine S_dup dX1_init_74 (Nat.le_of_ble_eq_true rfl) ?_
  refine P_invI' [] [(1, r8.1), (1, x0)] CIX4_init MLX1_47 dX1_init_75 rfl rfl rfl rfl (by omega) h (fun r h => F_X4_init (by omega) h) (fun M10 h => ?_)
  refine P_pfr FLX1_48 FPX1_48 (Or.inl ⟨_, rfl⟩) rfl dX1_init_78 h (fun M11 h => ?_)
  refine S_aload_n (i := 0) dX1_init_81 rfl rfl ?_
  refine P_nob NLX1_52 rfl dX1_init_82 h (fun r9 h => ?_)
  refine S_dup dX1_init_85 (Nat.le_of_ble_eq_true rfl) ?_
  refine S_sipush (z := 512) dX1_init_86 rfl ?_
  refine P_invI' [(0, 512)] [(1, r9.1), (1, x0)] CIX5_init MLX1_54 dX1_init_89 rfl rfl rfl rfl (by omega) h (fun r h => F_X5_init (by omega) h) (fun M12 h => ?_)
  refine P_pfr FLX1_57 FPX1_57 (Or.inl ⟨_, rfl⟩) rfl dX1_init_92 h (fun M13 h => ?_)
  refine S_aload_n (i := 0) dX1_init_95 rfl rfl ?_
  refine P_nob NLX1_61 rfl dX1_init_96 h (fun r10 h => ?_)
  refine S_dup dX1_init_99 (Nat.le_of_ble_eq_true rfl) ?_
  refine S_iload_n (i := 1) dX1_init_100 rfl rfl ?_
  refine S_iconst dX1_init_101 rfl ?_
  refine S_bipush (z := 20) dX1_init_102 rfl ?_
  refine P_invSp 0 [(0, x1), (0, 1), (0, 20)] [(1, r10.1), (1, r10.1), (1, x0)] CSX1_within MLX1_63 dX1_init_104 rfl rfl rfl rfl rfl (by omega) h (fun r h => F_X1_within (by omega) h) (fun v1 h => ?_)
  refine S_iload_n (i := 2) dX1_init_107 rfl rfl ?_
  refine S_iconst dX1_init_108 rfl ?_
  refine S_bipush (z := 8) dX1_init_109 rfl ?_
  refine P_invSp 0 [(0, x2), (0, 1), (0, 8)] [(0, v1), (1, r10.1), (1, r10.1), (1, x0)] CSX1_within MLX1_63 dX1_init_111 rfl rfl rfl rfl rfl (by omega) h (fun r h => F_X1_within (by omega) h) (fun v2 h => ?_)
  refine P_invI' [(0, v1), (0, v2)] [(1, r10.1), (1, x0)] CIX6_init MLX1_67 dX1_init_114 rfl rfl rfl rfl (by omega) h (fun r h => F_X6_init (by omega) h) (fun M14 h => ?_)
  refine P_pfr FLX1_70 FPX1_70 (Or.inl ⟨_, rfl⟩) rfl dX1_init_117 h (fun M15 h => ?_)
  refine S_aload_n (i := 0) dX1_init_120 rfl rfl ?_
  refine S_aload_n (i := 0) dX1_init_121 rfl rfl ?_
  refine P_gfr FLX1_70 rfl dX1_init_122 h (fun v3 h => ?_)
  refine P_gfr FLX1_74 rfl dX1_init_125 h (fun v4 h => ?_)
  refine P_pfr FLX1_78 FPX1_78 (Or.inl ⟨_, rfl⟩) rfl dX1_init_128 h (fun M16 h => ?_)
  refine S_weak (ls' := [(1, x0), (9, 0), (9, 0), (9, 0)]) ⟨Or.inr rfl, ⟨Or.inl rfl, ⟨Or.inl rfl, ⟨Or.inl rfl, trivial⟩⟩⟩⟩ ?_
  exact s_X1_init_131 hD r0 h hz
theorem F_X1_init {g : GG} {d : Nat} (hD : 4 ≤ d) {x0 x1 x2 : Int} {M : MM} {r : MM} (h : f_X1_init x0 x1 x2 M = some r) : Sem g d YX1_init 0 (ini YX1_init [(1, x0), (0, x1), (0, x2)]) [] M ((9, 0), r) := by
  change Sem g d YX1_init 0 [(1, x0), (0, x1), (0, x2), (9, 0)] [] M ((9, 0), r)
  exact s_X1_init_0 hD (P := fun x => x = r) (fun q e => by rw [e]) h rfl
/-! PeerSearch$Board.has(I)Z -/
theorem dX6_has_0 : decode cX6_has 0 = .ok (.iload_n 1, 1) := by decide +kernel
theorem dX6_has_1 : decode cX6_has 1 = .ok (.ifCond .lt 15, 3) := by decide +kernel
theorem dX6_has_4 : decode cX6_has 4 = .ok (.iload_n 1, 1) := by decide +kernel
theorem dX6_has_5 : decode cX6_has 5 = .ok (.aload_n 0, 1) := by decide +kernel
theorem dX6_has_6 : decode cX6_has 6 = .ok (.getfield 87, 3) := by decide +kernel
theorem dX6_has_9 : decode cX6_has 9 = .ok (.if_icmp .ge 7, 3) := by decide +kernel
theorem dX6_has_12 : decode cX6_has 12 = .ok (.iconst 1, 1) := by decide +kernel
theorem dX6_has_13 : decode cX6_has 13 = .ok (.goto 4, 3) := by decide +kernel
theorem dX6_has_16 : decode cX6_has 16 = .ok (.iconst 0, 1) := by decide +kernel
theorem dX6_has_17 : decode cX6_has 17 = .ok (.ireturn, 1) := by decide +kernel
def j_X6_has_17 (y0 : Int) (M : MM) : Option (Int) :=
  bz y0 (some y0)
def j_X6_has_16 (M : MM) : Option (Int) :=
  j_X6_has_17 0 M
def f_X6_has (x0 x1 : Int) (M : MM) : Option (Int) :=
  if w32 x1 < 0 then
    j_X6_has_16 M
  else
    (gfi 6 6 x0 M).bind fun v1 =>
    if w32 x1 < w32 v1 then
      j_X6_has_17 1 M
    else
      j_X6_has_16 M
theorem s_X6_has_17 {g : GG} {d : Nat} (hD : 0 ≤ d) {y0 : Int} {M : MM} {o : AV × MM} {P : (Int) → Prop} (r0 : ∀ r : Int, P r → o = ((0, r), M)) {z : Int} (h : j_X6_has_17 y0 M = some z) (hz : P z) : Sem g d YX6_has 17 [(9, 0), (9, 0)] [(0, y0)] M o := by
  delta j_X6_has_17 at h
  obtain ⟨hb, h⟩ := bz_some h
  obtain rfl := r0 _ (some_P (P := fun r => P r) h hz)
  exact P_ret dX6_has_17 rfl (Or.inr ⟨rfl, hb⟩)
theorem s_X6_has_16 {g : GG} {d : Nat} (hD : 0 ≤ d) {M : MM} {o : AV × MM} {P : (Int) → Prop} (r0 : ∀ r : Int, P r → o = ((0, r), M)) {z : Int} (h : j_X6_has_16 M = some z) (hz : P z) : Sem g d YX6_has 16 [(9, 0), (9, 0)] [] M o := by
  delta j_X6_has_16 at h
  refine S_iconst dX6_has_16 rfl ?_
  exact s_X6_has_17 hD r0 h hz
theorem s_X6_has_0 {g : GG} {d : Nat} (hD : 0 ≤ d) {x0 x1 : Int} {M : MM} {o : AV × MM} {P : (Int) → Prop} (r0 : ∀ r : Int, P r → o = ((0, r), M)) {z : Int} (h : f_X6_has x0 x1 M = some z) (hz : P z) : Sem g d YX6_has 0 [(1, x0), (0, x1)] [] M o := by
  delta f_X6_has at h
  refine S_iload_n (i := 1) dX6_has_0 rfl rfl ?_
  refine P_if_lt (tgt := 16) dX6_has_1 rfl h (fun h => ?_) (fun h => ?_)
  · refine S_weak (ls' := [(9, 0), (9, 0)]) ⟨Or.inl rfl, ⟨Or.inl rfl, trivial⟩⟩ ?_
    exact s_X6_has_16 hD r0 h hz
  · refine S_iload_n (i := 1) dX6_has_4 rfl rfl ?_
    refine S_aload_n (i := 0) dX6_has_5 rfl rfl ?_
    refine P_gfi FLX6_87 rfl dX6_has_6 h (fun v1 h => ?_)
    refine P_icmp_ge (tgt := 16) dX6_has_9 rfl h (fun h => ?_) (fun h => ?_)
    · refine S_weak (ls' := [(9, 0), (9, 0)]) ⟨Or.inl rfl, ⟨Or.inl rfl, trivial⟩⟩ ?_
      exact s_X6_has_16 hD r0 h hz
    · refine S_iconst dX6_has_12 rfl ?_
      refine S_goto (tgt := 17) dX6_has_13 rfl ?_
      refine S_weak (ls' := [(9, 0), (9, 0)]) ⟨Or.inl rfl, ⟨Or.inl rfl, trivial⟩⟩ ?_
      exact s_X6_has_17 hD r0 h hz
theorem F_X6_has {g : GG} {d : Nat} (hD : 0 ≤ d) {x0 x1 : Int} {M : MM} {r : Int} (h : f_X6_has x0 x1 M = some r) : Sem g d YX6_has 0 (ini YX6_has [(1, x0), (0, x1)]) [] M ((0, r), M) := by
  change Sem g d YX6_has 0 [(1, x0), (0, x1)] [] M ((0, r), M)
  exact s_X6_has_0 hD (P := fun x => x = r) (fun q e => by rw [e]) h rfl
/-! PeerSearch.has(I)Z -/
theorem dX1_has_0 : decode cX1_has 0 = .ok (.aload_n 0, 1) := by decide +kernel
theorem dX1_has_1 : decode cX1_has 1 = .ok (.getfield 70, 3) := by decide +kernel
theorem dX1_has_4 : decode cX1_has 4 = .ok (.iload_n 1, 1) := by decide +kernel
theorem dX1_has_5 : decode cX1_has 5 = .ok (.invokevirtual 109, 3) := by decide +kernel
theorem dX1_has_8 : decode cX1_has 8 = .ok (.ireturn, 1) := by decide +kernel
def f_X1_has (x0 x1 : Int) (M : MM) : Option (Int) :=
  (gfr 1 0 x0 M).bind fun v1 =>
  ck 6 v1 M <| (f_X6_has v1 x1 M).bind fun v2 =>
  bz v2 (some v2)
theorem s_X1_has_0 {g : GG} {d : Nat} (hD : 1 ≤ d) {x0 x1 : Int} {M : MM} {o : AV × MM} {P : (Int) → Prop} (r0 : ∀ r : Int, P r → o = ((0, r), M)) {z : Int} (h : f_X1_has x0 x1 M = some z) (hz : P z) : Sem g d YX1_has 0 [(1, x0), (0, x1)] [] M o := by
  delta f_X1_has at h
  refine S_aload_n (i := 0) dX1_has_0 rfl rfl ?_
  refine P_gfr FLX1_70 rfl dX1_has_1 h (fun v1 h => ?_)
  refine S_iload_n (i := 1) dX1_has_4 rfl rfl ?_
  refine P_invVp 0 [(0, x1)] [] CVX6_has MLX1_109 dX1_has_5 rfl rfl rfl rfl rfl (by omega) h (fun r h => F_X6_has (by omega) h) (fun v2 h => ?_)
  obtain ⟨hb, h⟩ := bz_some h
  obtain rfl := r0 _ (some_P (P := fun r => P r) h hz)
  exact P_ret dX1_has_8 rfl (Or.inr ⟨rfl, hb⟩)
theorem F_X1_has {g : GG} {d : Nat} (hD : 1 ≤ d) {x0 x1 : Int} {M : MM} {r : Int} (h : f_X1_has x0 x1 M = some r) : Sem g d YX1_has 0 (ini YX1_has [(1, x0), (0, x1)]) [] M ((0, r), M) := by
  change Sem g d YX1_has 0 [(1, x0), (0, x1)] [] M ((0, r), M)
  exact s_X1_has_0 hD (P := fun x => x = r) (fun q e => by rw [e]) h rfl
/-! java/lang/Integer.numberOfLeadingZeros(I)I -/
theorem dJ1_numberOfLeadingZeros_0 : decode cJ1_numberOfLeadingZeros 0 = .ok (.iload_n 0, 1) := by decide +kernel
theorem dJ1_numberOfLeadingZeros_1 : decode cJ1_numberOfLeadingZeros 1 = .ok (.ifCond .gt 14, 3) := by decide +kernel
theorem dJ1_numberOfLeadingZeros_4 : decode cJ1_numberOfLeadingZeros 4 = .ok (.iload_n 0, 1) := by decide +kernel
theorem dJ1_numberOfLeadingZeros_5 : decode cJ1_numberOfLeadingZeros 5 = .ok (.ifCond .ne 8, 3) := by decide +kernel
theorem dJ1_numberOfLeadingZeros_8 : decode cJ1_numberOfLeadingZeros 8 = .ok (.bipush 32, 2) := by decide +kernel
theorem dJ1_numberOfLeadingZeros_10 : decode cJ1_numberOfLeadingZeros 10 = .ok (.goto 4, 3) := by decide +kernel
theorem dJ1_numberOfLeadingZeros_13 : decode cJ1_numberOfLeadingZeros 13 = .ok (.iconst 0, 1) := by decide +kernel
theorem dJ1_numberOfLeadingZeros_14 : decode cJ1_numberOfLeadingZeros 14 = .ok (.ireturn, 1) := by decide +kernel
theorem dJ1_numberOfLeadingZeros_15 : decode cJ1_numberOfLeadingZeros 15 = .ok (.bipush 31, 2) := by decide +kernel
theorem dJ1_numberOfLeadingZeros_17 : decode cJ1_numberOfLeadingZeros 17 = .ok (.istore_n 1, 1) := by decide +kernel
theorem dJ1_numberOfLeadingZeros_18 : decode cJ1_numberOfLeadingZeros 18 = .ok (.iload_n 0, 1) := by decide +kernel
theorem dJ1_numberOfLeadingZeros_19 : decode cJ1_numberOfLeadingZeros 19 = .ok (.ldc_w 264, 3) := by decide +kernel
theorem dJ1_numberOfLeadingZeros_22 : decode cJ1_numberOfLeadingZeros 22 = .ok (.if_icmp .lt 11, 3) := by decide +kernel
theorem dJ1_numberOfLeadingZeros_25 : decode cJ1_numberOfLeadingZeros 25 = .ok (.iinc 1 (-16), 3) := by decide +kernel
theorem dJ1_numberOfLeadingZeros_28 : decode cJ1_numberOfLeadingZeros 28 = .ok (.iload_n 0, 1) := by decide +kernel
theorem dJ1_numberOfLeadingZeros_29 : decode cJ1_numberOfLeadingZeros 29 = .ok (.bipush 16, 2) := by decide +kernel
theorem dJ1_numberOfLeadingZeros_31 : decode cJ1_numberOfLeadingZeros 31 = .ok (.iushr, 1) := by decide +kernel
theorem dJ1_numberOfLeadingZeros_32 : decode cJ1_numberOfLeadingZeros 32 = .ok (.istore_n 0, 1) := by decide +kernel
theorem dJ1_numberOfLeadingZeros_33 : decode cJ1_numberOfLeadingZeros 33 = .ok (.iload_n 0, 1) := by decide +kernel
theorem dJ1_numberOfLeadingZeros_34 : decode cJ1_numberOfLeadingZeros 34 = .ok (.sipush 256, 3) := by decide +kernel
theorem dJ1_numberOfLeadingZeros_37 : decode cJ1_numberOfLeadingZeros 37 = .ok (.if_icmp .lt 11, 3) := by decide +kernel
theorem dJ1_numberOfLeadingZeros_40 : decode cJ1_numberOfLeadingZeros 40 = .ok (.iinc 1 (-8), 3) := by decide +kernel
theorem dJ1_numberOfLeadingZeros_43 : decode cJ1_numberOfLeadingZeros 43 = .ok (.iload_n 0, 1) := by decide +kernel
theorem dJ1_numberOfLeadingZeros_44 : decode cJ1_numberOfLeadingZeros 44 = .ok (.bipush 8, 2) := by decide +kernel
theorem dJ1_numberOfLeadingZeros_46 : decode cJ1_numberOfLeadingZeros 46 = .ok (.iushr, 1) := by decide +kernel
theorem dJ1_numberOfLeadingZeros_47 : decode cJ1_numberOfLeadingZeros 47 = .ok (.istore_n 0, 1) := by decide +kernel
theorem dJ1_numberOfLeadingZeros_48 : decode cJ1_numberOfLeadingZeros 48 = .ok (.iload_n 0, 1) := by decide +kernel
theorem dJ1_numberOfLeadingZeros_49 : decode cJ1_numberOfLeadingZeros 49 = .ok (.bipush 16, 2) := by decide +kernel
theorem dJ1_numberOfLeadingZeros_51 : decode cJ1_numberOfLeadingZeros 51 = .ok (.if_icmp .lt 10, 3) := by decide +kernel
theorem dJ1_numberOfLeadingZeros_54 : decode cJ1_numberOfLeadingZeros 54 = .ok (.iinc 1 (-4), 3) := by decide +kernel
theorem dJ1_numberOfLeadingZeros_57 : decode cJ1_numberOfLeadingZeros 57 = .ok (.iload_n 0, 1) := by decide +kernel
theorem dJ1_numberOfLeadingZeros_58 : decode cJ1_numberOfLeadingZeros 58 = .ok (.iconst 4, 1) := by decide +kernel
theorem dJ1_numberOfLeadingZeros_59 : decode cJ1_numberOfLeadingZeros 59 = .ok (.iushr, 1) := by decide +kernel
theorem dJ1_numberOfLeadingZeros_60 : decode cJ1_numberOfLeadingZeros 60 = .ok (.istore_n 0, 1) := by decide +kernel
theorem dJ1_numberOfLeadingZeros_61 : decode cJ1_numberOfLeadingZeros 61 = .ok (.iload_n 0, 1) := by decide +kernel
theorem dJ1_numberOfLeadingZeros_62 : decode cJ1_numberOfLeadingZeros 62 = .ok (.iconst 4, 1) := by decide +kernel
theorem dJ1_numberOfLeadingZeros_63 : decode cJ1_numberOfLeadingZeros 63 = .ok (.if_icmp .lt 10, 3) := by decide +kernel
theorem dJ1_numberOfLeadingZeros_66 : decode cJ1_numberOfLeadingZeros 66 = .ok (.iinc 1 (-2), 3) := by decide +kernel
theorem dJ1_numberOfLeadingZeros_69 : decode cJ1_numberOfLeadingZeros 69 = .ok (.iload_n 0, 1) := by decide +kernel
theorem dJ1_numberOfLeadingZeros_70 : decode cJ1_numberOfLeadingZeros 70 = .ok (.iconst 2, 1) := by decide +kernel
theorem dJ1_numberOfLeadingZeros_71 : decode cJ1_numberOfLeadingZeros 71 = .ok (.iushr, 1) := by decide +kernel
theorem dJ1_numberOfLeadingZeros_72 : decode cJ1_numberOfLeadingZeros 72 = .ok (.istore_n 0, 1) := by decide +kernel
theorem dJ1_numberOfLeadingZeros_73 : decode cJ1_numberOfLeadingZeros 73 = .ok (.iload_n 1, 1) := by decide +kernel
theorem dJ1_numberOfLeadingZeros_74 : decode cJ1_numberOfLeadingZeros 74 = .ok (.iload_n 0, 1) := by decide +kernel
theorem dJ1_numberOfLeadingZeros_75 : decode cJ1_numberOfLeadingZeros 75 = .ok (.iconst 1, 1) := by decide +kernel
theorem dJ1_numberOfLeadingZeros_76 : decode cJ1_numberOfLeadingZeros 76 = .ok (.iushr, 1) := by decide +kernel
theorem dJ1_numberOfLeadingZeros_77 : decode cJ1_numberOfLeadingZeros 77 = .ok (.isub, 1) := by decide +kernel
theorem dJ1_numberOfLeadingZeros_78 : decode cJ1_numberOfLeadingZeros 78 = .ok (.ireturn, 1) := by decide +kernel
def j_J1_numberOfLeadingZeros_73 (x0 x1 : Int) : Option (Int) :=
  some (x1 - (bush x0 1))
def j_J1_numberOfLeadingZeros_61 (x0 x1 : Int) : Option (Int) :=
  if w32 x0 < w32 4 then
    j_J1_numberOfLeadingZeros_73 x0 x1
  else
    j_J1_numberOfLeadingZeros_73 (bush x0 2) (x1 + (-2))
def j_J1_numberOfLeadingZeros_48 (x0 x1 : Int) : Option (Int) :=
  if w32 x0 < w32 16 then
    j_J1_numberOfLeadingZeros_61 x0 x1
  else
    j_J1_numberOfLeadingZeros_61 (bush x0 4) (x1 + (-4))
def j_J1_numberOfLeadingZeros_33 (x0 x1 : Int) : Option (Int) :=
  if w32 x0 < w32 256 then
    j_J1_numberOfLeadingZeros_48 x0 x1
  else
    j_J1_numberOfLeadingZeros_48 (bush x0 8) (x1 + (-8))
def j_J1_numberOfLeadingZeros_14 (y0 : Int) : Option (Int) :=
  some y0
def f_J1_numberOfLeadingZeros (x0 : Int) : Option (Int) :=
  if 0 < w32 x0 then
    if w32 x0 < w32 65536 then
      j_J1_numberOfLeadingZeros_33 x0 31
    else
      j_J1_numberOfLeadingZeros_33 (bush x0 16) (31 + (-16))
  else
    if w32 x0 = 0 then
      j_J1_numberOfLeadingZeros_14 32
    else
      j_J1_numberOfLeadingZeros_14 0
theorem s_J1_numberOfLeadingZeros_73 {g : GG} {d : Nat} (hD : 0 ≤ d) {x0 x1 : Int} {M : MM} {o : AV × MM} {P : (Int) → Prop} (r0 : ∀ r : Int, P r → o = ((0, r), M)) {z : Int} (h : j_J1_numberOfLeadingZeros_73 x0 x1 = some z) (hz : P z) : Sem g d YJ1_numberOfLeadingZeros 73 [(0, x0), (0, x1)] [] M o := by
  delta j_J1_numberOfLeadingZeros_73 at h
  refine S_iload_n (i := 1) dJ1_numberOfLeadingZeros_73 rfl rfl ?_
  refine S_iload_n (i := 0) dJ1_numberOfLeadingZeros_74 rfl rfl ?_
  refine S_iconst dJ1_numberOfLeadingZeros_75 rfl ?_
  refine S_iushr dJ1_numberOfLeadingZeros_76 ?_
  refine S_isub dJ1_numberOfLeadingZeros_77 ?_
  obtain rfl := r0 _ (some_P (P := fun r => P r) h hz)
  exact P_ret dJ1_numberOfLeadingZeros_78 rfl (Or.inl rfl)
theorem s_J1_numberOfLeadingZeros_61 {g : GG} {d : Nat} (hD : 0 ≤ d) {x0 x1 : Int} {M : MM} {o : AV × MM} {P : (Int) → Prop} (r0 : ∀ r : Int, P r → o = ((0, r), M)) {z : Int} (h : j_J1_numberOfLeadingZeros_61 x0 x1 = some z) (hz : P z) : Sem g d YJ1_numberOfLeadingZeros 61 [(0, x0), (0, x1)] [] M o := by
  delta j_J1_numberOfLeadingZeros_61 at h
  refine S_iload_n (i := 0) dJ1_numberOfLeadingZeros_61 rfl rfl ?_
  refine S_iconst dJ1_numberOfLeadingZeros_62 rfl ?_
  refine P_icmp_lt (tgt := 73) dJ1_numberOfLeadingZeros_63 rfl h (fun h => ?_) (fun h => ?_)
  · exact s_J1_numberOfLeadingZeros_73 hD r0 h hz
  · refine S_iinc dJ1_numberOfLeadingZeros_66 rfl rfl rfl ?_
    change Sem g d YJ1_numberOfLeadingZeros 69 [(0, x0), (0, x1 + (-2))] [] M o
    refine S_iload_n (i := 0) dJ1_numberOfLeadingZeros_69 rfl rfl ?_
    refine S_iconst dJ1_numberOfLeadingZeros_70 rfl ?_
    refine S_iushr dJ1_numberOfLeadingZeros_71 ?_
    refine S_istore_n (i := 0) dJ1_numberOfLeadingZeros_72 rfl (Nat.le_of_ble_eq_true rfl) rfl rfl ?_
    change Sem g d YJ1_numberOfLeadingZeros 73 [(0, bush x0 2), (0, x1 + (-2))] [] M o
    exact s_J1_numberOfLeadingZeros_73 hD r0 h hz
theorem s_J1_numberOfLeadingZeros_48 {g : GG} {d : Nat} (hD : 0 ≤ d) {x0 x1 : Int} {M : MM} {o : AV × MM} {P : (Int) → Prop} (r0 : ∀ r : Int, P r → o = ((0, r), M)) {z : Int} (h : j_J1_numberOfLeadingZeros_48 x0 x1 = some z) (hz : P z) : Sem g d YJ1_numberOfLeadingZeros 48 [(0, x0), (0, x1)] [] M o := by
  delta j_J1_numberOfLeadingZeros_48 at h
  refine S_iload_n (i := 0) dJ1_numberOfLeadingZeros_48 rfl rfl ?_
  refine S_bipush (z := 16) dJ1_numberOfLeadingZeros_49 rfl ?_
  refine P_icmp_lt (tgt := 61) dJ1_numberOfLeadingZeros_51 rfl h (fun h => ?_) (fun h => ?_)
  · exact s_J1_numberOfLeadingZeros_61 hD r0 h hz
  · refine S_iinc dJ1_numberOfLeadingZeros_54 rfl rfl rfl ?_
    change Sem g d YJ1_numberOfLeadingZeros 57 [(0, x0), (0, x1 + (-4))] [] M o
    refine S_iload_n (i := 0) dJ1_numberOfLeadingZeros_57 rfl rfl ?_
    refine S_iconst dJ1_numberOfLeadingZeros_58 rfl ?_
    refine S_iushr dJ1_numberOfLeadingZeros_59 ?_
    refine S_istore_n (i := 0) dJ1_numberOfLeadingZeros_60 rfl (Nat.le_of_ble_eq_true rfl) rfl rfl ?_
    change Sem g d YJ1_numberOfLeadingZeros 61 [(0, bush x0 4), (0, x1 + (-4))] [] M o
    exact s_J1_numberOfLeadingZeros_61 hD r0 h hz
theorem s_J1_numberOfLeadingZeros_33 {g : GG} {d : Nat} (hD : 0 ≤ d) {x0 x1 : Int} {M : MM} {o : AV × MM} {P : (Int) → Prop} (r0 : ∀ r : Int, P r → o = ((0, r), M)) {z : Int} (h : j_J1_numberOfLeadingZeros_33 x0 x1 = some z) (hz : P z) : Sem g d YJ1_numberOfLeadingZeros 33 [(0, x0), (0, x1)] [] M o := by
  delta j_J1_numberOfLeadingZeros_33 at h
  refine S_iload_n (i := 0) dJ1_numberOfLeadingZeros_33 rfl rfl ?_
  refine S_sipush (z := 256) dJ1_numberOfLeadingZeros_34 rfl ?_
  refine P_icmp_lt (tgt := 48) dJ1_numberOfLeadingZeros_37 rfl h (fun h => ?_) (fun h => ?_)
  · exact s_J1_numberOfLeadingZeros_48 hD r0 h hz
  · refine S_iinc dJ1_numberOfLeadingZeros_40 rfl rfl rfl ?_
    change Sem g d YJ1_numberOfLeadingZeros 43 [(0, x0), (0, x1 + (-8))] [] M o
    refine S_iload_n (i := 0) dJ1_numberOfLeadingZeros_43 rfl rfl ?_
    refine S_bipush (z := 8) dJ1_numberOfLeadingZeros_44 rfl ?_
    refine S_iushr dJ1_numberOfLeadingZeros_46 ?_
    refine S_istore_n (i := 0) dJ1_numberOfLeadingZeros_47 rfl (Nat.le_of_ble_eq_true rfl) rfl rfl ?_
    change Sem g d YJ1_numberOfLeadingZeros 48 [(0, bush x0 8), (0, x1 + (-8))] [] M o
    exact s_J1_numberOfLeadingZeros_48 hD r0 h hz
theorem s_J1_numberOfLeadingZeros_14 {g : GG} {d : Nat} (hD : 0 ≤ d) {y0 : Int} {M : MM} {o : AV × MM} {P : (Int) → Prop} (r0 : ∀ r : Int, P r → o = ((0, r), M)) {z : Int} (h : j_J1_numberOfLeadingZeros_14 y0 = some z) (hz : P z) : Sem g d YJ1_numberOfLeadingZeros 14 [(9, 0), (9, 0)] [(0, y0)] M o := by
  delta j_J1_numberOfLeadingZeros_14 at h
  obtain rfl := r0 _ (some_P (P := fun r => P r) h hz)
  exact P_ret dJ1_numberOfLeadingZeros_14 rfl (Or.inl rfl)
theorem s_J1_numberOfLeadingZeros_0 {g : GG} {d : Nat} (hD : 0 ≤ d) {x0 : Int} {M : MM} {o : AV × MM} {P : (Int) → Prop} (r0 : ∀ r : Int, P r → o = ((0, r), M)) {z : Int} (h : f_J1_numberOfLeadingZeros x0 = some z) (hz : P z) : Sem g d YJ1_numberOfLeadingZeros 0 [(0, x0), (9, 0)] [] M o := by
  delta f_J1_numberOfLeadingZeros at h
  refine S_iload_n (i := 0) dJ1_numberOfLeadingZeros_0 rfl rfl ?_
  refine P_if_gt (tgt := 15) dJ1_numberOfLeadingZeros_1 rfl h (fun h => ?_) (fun h => ?_)
  · refine S_bipush (z := 31) dJ1_numberOfLeadingZeros_15 rfl ?_
    refine S_istore_n (i := 1) dJ1_numberOfLeadingZeros_17 rfl (Nat.le_of_ble_eq_true rfl) rfl rfl ?_
    change Sem g d YJ1_numberOfLeadingZeros 18 [(0, x0), (0, 31)] [] M o
    refine S_iload_n (i := 0) dJ1_numberOfLeadingZeros_18 rfl rfl ?_
    refine S_ldcw (z := 65536) kJ1_264 dJ1_numberOfLeadingZeros_19 ?_
    refine P_icmp_lt (tgt := 33) dJ1_numberOfLeadingZeros_22 rfl h (fun h => ?_) (fun h => ?_)
    · exact s_J1_numberOfLeadingZeros_33 hD r0 h hz
    · refine S_iinc dJ1_numberOfLeadingZeros_25 rfl rfl rfl ?_
      change Sem g d YJ1_numberOfLeadingZeros 28 [(0, x0), (0, 31 + (-16))] [] M o
      refine S_iload_n (i := 0) dJ1_numberOfLeadingZeros_28 rfl rfl ?_
      refine S_bipush (z := 16) dJ1_numberOfLeadingZeros_29 rfl ?_
      refine S_iushr dJ1_numberOfLeadingZeros_31 ?_
      refine S_istore_n (i := 0) dJ1_numberOfLeadingZeros_32 rfl (Nat.le_of_ble_eq_true rfl) rfl rfl ?_
      change Sem g d YJ1_numberOfLeadingZeros 33 [(0, bush x0 16), (0, 31 + (-16))] [] M o
      exact s_J1_numberOfLeadingZeros_33 hD r0 h hz
  · refine S_iload_n (i := 0) dJ1_numberOfLeadingZeros_4 rfl rfl ?_
    refine P_if_ne (tgt := 13) dJ1_numberOfLeadingZeros_5 rfl h (fun h => ?_) (fun h => ?_)
    · refine S_iconst dJ1_numberOfLeadingZeros_13 rfl ?_
      refine S_weak (ls' := [(9, 0), (9, 0)]) ⟨Or.inl rfl, ⟨Or.inl rfl, trivial⟩⟩ ?_
      exact s_J1_numberOfLeadingZeros_14 hD r0 h hz
    · refine S_bipush (z := 32) dJ1_numberOfLeadingZeros_8 rfl ?_
      refine S_goto (tgt := 14) dJ1_numberOfLeadingZeros_10 rfl ?_
      refine S_weak (ls' := [(9, 0), (9, 0)]) ⟨Or.inl rfl, ⟨Or.inl rfl, trivial⟩⟩ ?_
      exact s_J1_numberOfLeadingZeros_14 hD r0 h hz
theorem F_J1_numberOfLeadingZeros {g : GG} {d : Nat} (hD : 0 ≤ d) {x0 : Int} {M : MM} {r : Int} (h : f_J1_numberOfLeadingZeros x0 = some r) : Sem g d YJ1_numberOfLeadingZeros 0 (ini YJ1_numberOfLeadingZeros [(0, x0)]) [] M ((0, r), M) := by
  change Sem g d YJ1_numberOfLeadingZeros 0 [(0, x0), (9, 0)] [] M ((0, r), M)
  exact s_J1_numberOfLeadingZeros_0 hD (P := fun x => x = r) (fun q e => by rw [e]) h rfl
/-! PeerSearch$Key.common(LPeerSearch$Key;)I -/
theorem dX3_common_0 : decode cX3_common 0 = .ok (.iconst 0, 1) := by decide +kernel
theorem dX3_common_1 : decode cX3_common 1 = .ok (.istore_n 2, 1) := by decide +kernel
theorem dX3_common_2 : decode cX3_common 2 = .ok (.iload_n 2, 1) := by decide +kernel
theorem dX3_common_3 : decode cX3_common 3 = .ok (.iconst 5, 1) := by decide +kernel
theorem dX3_common_4 : decode cX3_common 4 = .ok (.if_icmp .ge 37, 3) := by decide +kernel
theorem dX3_common_7 : decode cX3_common 7 = .ok (.aload_n 0, 1) := by decide +kernel
theorem dX3_common_8 : decode cX3_common 8 = .ok (.getfield 9, 3) := by decide +kernel
theorem dX3_common_11 : decode cX3_common 11 = .ok (.iload_n 2, 1) := by decide +kernel
theorem dX3_common_12 : decode cX3_common 12 = .ok (.iaload, 1) := by decide +kernel
theorem dX3_common_13 : decode cX3_common 13 = .ok (.aload_n 1, 1) := by decide +kernel
theorem dX3_common_14 : decode cX3_common 14 = .ok (.getfield 9, 3) := by decide +kernel
theorem dX3_common_17 : decode cX3_common 17 = .ok (.iload_n 2, 1) := by decide +kernel
theorem dX3_common_18 : decode cX3_common 18 = .ok (.iaload, 1) := by decide +kernel
theorem dX3_common_19 : decode cX3_common 19 = .ok (.ixor, 1) := by decide +kernel
theorem dX3_common_20 : decode cX3_common 20 = .ok (.istore_n 3, 1) := by decide +kernel
theorem dX3_common_21 : decode cX3_common 21 = .ok (.iload_n 3, 1) := by decide +kernel
theorem dX3_common_22 : decode cX3_common 22 = .ok (.ifCond .eq 13, 3) := by decide +kernel
theorem dX3_common_25 : decode cX3_common 25 = .ok (.bipush 32, 2) := by decide +kernel
theorem dX3_common_27 : decode cX3_common 27 = .ok (.iload_n 2, 1) := by decide +kernel
theorem dX3_common_28 : decode cX3_common 28 = .ok (.imul, 1) := by decide +kernel
theorem dX3_common_29 : decode cX3_common 29 = .ok (.iload_n 3, 1) := by decide +kernel
theorem dX3_common_30 : decode cX3_common 30 = .ok (.invokestatic 17, 3) := by decide +kernel
theorem dX3_common_33 : decode cX3_common 33 = .ok (.iadd, 1) := by decide +kernel
theorem dX3_common_34 : decode cX3_common 34 = .ok (.ireturn, 1) := by decide +kernel
theorem dX3_common_35 : decode cX3_common 35 = .ok (.iinc 2 1, 3) := by decide +kernel
theorem dX3_common_38 : decode cX3_common 38 = .ok (.goto (-36), 3) := by decide +kernel
theorem dX3_common_41 : decode cX3_common 41 = .ok (.sipush 160, 3) := by decide +kernel
theorem dX3_common_44 : decode cX3_common 44 = .ok (.ireturn, 1) := by decide +kernel
def j_X3_common_25 (x2 x3 : Int) (M : MM) : Option (Int) :=
  (f_J1_numberOfLeadingZeros x3).bind fun v1 =>
  some ((32 * x2) + v1)
def b_X3_common_2 (x0 x1 x2 : Int) (M : MM) : Option ((Int) ⊕ (Int)) :=
  if w32 x2 < w32 5 then
    (gfr 3 0 x0 M).bind fun v1 =>
    (lai v1 x2 M).bind fun v2 =>
    (gfr 3 0 x1 M).bind fun v3 =>
    (lai v3 x2 M).bind fun v4 =>
    if w32 (bxor v2 v4) = 0 then
      cnt (x2 + 1)
    else
      xit (j_X3_common_25 x2 (bxor v2 v4) M)
  else
    xit (some 160)
def l_X3_common_2 (x0 x1 x2 : Int) (M : MM) : Option (Int) := lpN (fun s : Int => b_X3_common_2 x0 x1 s M) FU x2
def f_X3_common (x0 x1 : Int) (M : MM) : Option (Int) :=
  l_X3_common_2 x0 x1 0 M
theorem s_X3_common_25 {g : GG} {d : Nat} (hD : 1 ≤ d) {x2 x3 : Int} {M : MM} {o : AV × MM} {P : (Int) → Prop} (r0 : ∀ r : Int, P r → o = ((0, r), M)) {z : Int} (h : j_X3_common_25 x2 x3 M = some z) (hz : P z) : Sem g d YX3_common 25 [(9, 0), (9, 0), (0, x2), (0, x3)] [] M o := by
  delta j_X3_common_25 at h
  refine S_bipush (z := 32) dX3_common_25 rfl ?_
  refine S_iload_n (i := 2) dX3_common_27 rfl rfl ?_
  refine S_imul dX3_common_28 ?_
  refine S_iload_n (i := 3) dX3_common_29 rfl rfl ?_
  refine P_invSp 0 [(0, x3)] [(0, 32 * x2)] CSJ1_numberOfLeadingZeros MLX3_17 dX3_common_30 rfl rfl rfl rfl rfl (by omega) h (fun r h => F_J1_numberOfLeadingZeros (by omega) h) (fun v1 h => ?_)
  refine S_iadd dX3_common_33 ?_
  obtain rfl := r0 _ (some_P (P := fun r => P r) h hz)
  exact P_ret dX3_common_34 rfl (Or.inl rfl)
theorem s_X3_common_2 {g : GG} {d : Nat} (hD : 1 ≤ d) {x0 x1 x2 : Int} {M : MM} {o : AV × MM} {P : ((Int) ⊕ (Int)) → Prop} (c0 : ∀ s : Int, P (.inl s) → Sem g d YX3_common 2 [(1, x0), (1, x1), (0, s), (9, 0)] [] M o) (r0 : ∀ r : Int, P (.inr r) → o = ((0, r), M)) {z : (Int) ⊕ (Int)} (h : b_X3_common_2 x0 x1 x2 M = some z) (hz : P z) : Sem g d YX3_common 2 [(1, x0), (1, x1), (0, x2), (9, 0)] [] M o := by
  delta b_X3_common_2 at h
  refine S_iload_n (i := 2) dX3_common_2 rfl rfl ?_
  refine S_iconst dX3_common_3 rfl ?_
  refine P_icmp_ge (tgt := 41) dX3_common_4 rfl h (fun h => ?_) (fun h => ?_)
  · obtain ⟨z0, h, hz⟩ := xit_some' (P := fun r => P r) h hz
    refine S_sipush (z := 160) dX3_common_41 rfl ?_
    obtain rfl := r0 _ (some_P (P := fun r => P (.inr r)) h hz)
    exact P_ret dX3_common_44 rfl (Or.inl rfl)
  · refine S_aload_n (i := 0) dX3_common_7 rfl rfl ?_
    refine P_gfr FLX3_9 rfl dX3_common_8 h (fun v1 h => ?_)
    refine S_iload_n (i := 2) dX3_common_11 rfl rfl ?_
    refine P_lai dX3_common_12 h (fun v2 h => ?_)
    refine S_aload_n (i := 1) dX3_common_13 rfl rfl ?_
    refine P_gfr FLX3_9 rfl dX3_common_14 h (fun v3 h => ?_)
    refine S_iload_n (i := 2) dX3_common_17 rfl rfl ?_
    refine P_lai dX3_common_18 h (fun v4 h => ?_)
    refine S_ixor dX3_common_19 ?_
    refine S_istore_n (i := 3) dX3_common_20 rfl (Nat.le_of_ble_eq_true rfl) rfl rfl ?_
    change Sem g d YX3_common 21 [(1, x0), (1, x1), (0, x2), (0, bxor v2 v4)] [] M o
    refine S_iload_n (i := 3) dX3_common_21 rfl rfl ?_
    refine P_if_eq (tgt := 35) dX3_common_22 rfl h (fun h => ?_) (fun h => ?_)
    · refine S_iinc dX3_common_35 rfl rfl rfl ?_
      change Sem g d YX3_common 38 [(1, x0), (1, x1), (0, x2 + 1), (0, bxor v2 v4)] [] M o
      refine S_goto (tgt := 2) dX3_common_38 rfl ?_
      refine S_weak (ls' := [(1, x0), (1, x1), (0, x2 + 1), (9, 0)]) ⟨Or.inr rfl, ⟨Or.inr rfl, ⟨Or.inr rfl, ⟨Or.inl rfl, trivial⟩⟩⟩⟩ ?_
      exact c0 (x2 + 1) (some_P (P := fun r => P r) h hz)
    · refine S_weak (ls' := [(9, 0), (9, 0), (0, x2), (0, bxor v2 v4)]) ⟨Or.inl rfl, ⟨Or.inl rfl, ⟨Or.inr rfl, ⟨Or.inr rfl, trivial⟩⟩⟩⟩ ?_
      obtain ⟨z0, h, hz⟩ := xit_some' (P := fun r => P r) h hz
      exact s_X3_common_25 hD (P := fun r => P (.inr r)) r0 h hz
theorem sl_X3_common_2 {g : GG} {d : Nat} (hD : 1 ≤ d) {x0 x1 x2 : Int} {M : MM} {o : AV × MM} {P : (Int) → Prop} (r0 : ∀ r : Int, P r → o = ((0, r), M)) {z : Int} (h : l_X3_common_2 x0 x1 x2 M = some z) (hz : P z) : Sem g d YX3_common 2 [(1, x0), (1, x1), (0, x2), (9, 0)] [] M o := by
  refine lp_sound (S := fun s : Int => Sem g d YX3_common 2 [(1, x0), (1, x1), (0, s), (9, 0)] [] M o) (P := P) ?_ FU x2 z h hz
  intro s x hx hP
  exact s_X3_common_2 hD (P := Sum.elim (fun s : Int => Sem g d YX3_common 2 [(1, x0), (1, x1), (0, s), (9, 0)] [] M o) P) (fun s h => h) (fun s h => r0 s h) hx hP
theorem s_X3_common_0 {g : GG} {d : Nat} (hD : 1 ≤ d) {x0 x1 : Int} {M : MM} {o : AV × MM} {P : (Int) → Prop} (r0 : ∀ r : Int, P r → o = ((0, r), M)) {z : Int} (h : f_X3_common x0 x1 M = some z) (hz : P z) : Sem g d YX3_common 0 [(1, x0), (1, x1), (9, 0), (9, 0)] [] M o := by
  delta f_X3_common at h
  refine S_iconst dX3_common_0 rfl ?_
  refine S_istore_n (i := 2) dX3_common_1 rfl (Nat.le_of_ble_eq_true rfl) rfl rfl ?_
  change Sem g d YX3_common 2 [(1, x0), (1, x1), (0, 0), (9, 0)] [] M o
  exact sl_X3_common_2 hD r0 h hz
theorem F_X3_common {g : GG} {d : Nat} (hD : 1 ≤ d) {x0 x1 : Int} {M : MM} {r : Int} (h : f_X3_common x0 x1 M = some r) : Sem g d YX3_common 0 (ini YX3_common [(1, x0), (1, x1)]) [] M ((0, r), M) := by
  change Sem g d YX3_common 0 [(1, x0), (1, x1), (9, 0), (9, 0)] [] M ((0, r), M)
  exact s_X3_common_0 hD (P := fun x => x = r) (fun q e => by rw [e]) h rfl
/-! PeerSearch$Table.ranked(LPeerSearch$Row;I)LPeerSearch$Contact; -/
theorem dX20_ranked_0 : decode cX20_ranked 0 = .ok (.iload_n 2, 1) := by decide +kernel
theorem dX20_ranked_1 : decode cX20_ranked 1 = .ok (.istore_n 3, 1) := by decide +kernel
theorem dX20_ranked_2 : decode cX20_ranked 2 = .ok (.aload_n 0, 1) := by decide +kernel
theorem dX20_ranked_3 : decode cX20_ranked 3 = .ok (.getfield 34, 3) := by decide +kernel
theorem dX20_ranked_6 : decode cX20_ranked 6 = .ok (.iconst 1, 1) := by decide +kernel
theorem dX20_ranked_7 : decode cX20_ranked 7 = .ok (.isub, 1) := by decide +kernel
theorem dX20_ranked_8 : decode cX20_ranked 8 = .ok (.istore 4, 2) := by decide +kernel
theorem dX20_ranked_10 : decode cX20_ranked 10 = .ok (.iload 4, 2) := by decide +kernel
theorem dX20_ranked_12 : decode cX20_ranked 12 = .ok (.sipush 160, 3) := by decide +kernel
theorem dX20_ranked_15 : decode cX20_ranked 15 = .ok (.if_icmp .ge 67, 3) := by decide +kernel
theorem dX20_ranked_18 : decode cX20_ranked 18 = .ok (.iconst 0, 1) := by decide +kernel
theorem dX20_ranked_19 : decode cX20_ranked 19 = .ok (.istore 5, 2) := by decide +kernel
theorem dX20_ranked_21 : decode cX20_ranked 21 = .ok (.iload 5, 2) := by decide +kernel
theorem dX20_ranked_23 : decode cX20_ranked 23 = .ok (.aload_n 1, 1) := by decide +kernel
theorem dX20_ranked_24 : decode cX20_ranked 24 = .ok (.getfield 44, 3) := by decide +kernel
theorem dX20_ranked_27 : decode cX20_ranked 27 = .ok (.if_icmp .ge 49, 3) := by decide +kernel
theorem dX20_ranked_30 : decode cX20_ranked 30 = .ok (.aload_n 0, 1) := by decide +kernel
theorem dX20_ranked_31 : decode cX20_ranked 31 = .ok (.getfield 19, 3) := by decide +kernel
theorem dX20_ranked_34 : decode cX20_ranked 34 = .ok (.aload_n 1, 1) := by decide +kernel
theorem dX20_ranked_35 : decode cX20_ranked 35 = .ok (.getfield 74, 3) := by decide +kernel
theorem dX20_ranked_38 : decode cX20_ranked 38 = .ok (.iload 5, 2) := by decide +kernel
theorem dX20_ranked_40 : decode cX20_ranked 40 = .ok (.aaload, 1) := by decide +kernel
theorem dX20_ranked_41 : decode cX20_ranked 41 = .ok (.getfield 78, 3) := by decide +kernel
theorem dX20_ranked_44 : decode cX20_ranked 44 = .ok (.invokevirtual 83, 3) := by decide +kernel
theorem dX20_ranked_47 : decode cX20_ranked 47 = .ok (.iload 4, 2) := by decide +kernel
theorem dX20_ranked_49 : decode cX20_ranked 49 = .ok (.if_icmp .eq 6, 3) := by decide +kernel
theorem dX20_ranked_52 : decode cX20_ranked 52 = .ok (.goto 18, 3) := by decide +kernel
theorem dX20_ranked_55 : decode cX20_ranked 55 = .ok (.iload_n 3, 1) := by decide +kernel
theorem dX20_ranked_56 : decode cX20_ranked 56 = .ok (.ifCond .ne 11, 3) := by decide +kernel
theorem dX20_ranked_59 : decode cX20_ranked 59 = .ok (.aload_n 1, 1) := by decide +kernel
theorem dX20_ranked_60 : decode cX20_ranked 60 = .ok (.getfield 74, 3) := by decide +kernel
theorem dX20_ranked_63 : decode cX20_ranked 63 = .ok (.iload 5, 2) := by decide +kernel
theorem dX20_ranked_65 : decode cX20_ranked 65 = .ok (.aaload, 1) := by decide +kernel
theorem dX20_ranked_66 : decode cX20_ranked 66 = .ok (.areturn, 1) := by decide +kernel
theorem dX20_ranked_67 : decode cX20_ranked 67 = .ok (.iinc 3 (-1), 3) := by decide +kernel
theorem dX20_ranked_70 : decode cX20_ranked 70 = .ok (.iinc 5 1, 3) := by decide +kernel
theorem dX20_ranked_73 : decode cX20_ranked 73 = .ok (.goto (-52), 3) := by decide +kernel
theorem dX20_ranked_76 : decode cX20_ranked 76 = .ok (.iinc 4 1, 3) := by decide +kernel
theorem dX20_ranked_79 : decode cX20_ranked 79 = .ok (.goto (-69), 3) := by decide +kernel
theorem dX20_ranked_82 : decode cX20_ranked 82 = .ok (.aconst_null, 1) := by decide +kernel
theorem dX20_ranked_83 : decode cX20_ranked 83 = .ok (.areturn, 1) := by decide +kernel
def j_X20_ranked_76 (x0 x1 x3 x4 : Int) (M : MM) : Option ((Int × Int) ⊕ (Int)) :=
  cnt (x3, x4 + 1)
def j_X20_ranked_70 (x0 x1 x3 x4 x5 : Int) (M : MM) : Option ((Int × Int) ⊕ ((Int × Int) ⊕ (Int))) :=
  cnt (x3, x5 + 1)
def j_X20_ranked_59 (x1 x5 : Int) (M : MM) : Option (Int) :=
  (gfr 22 0 x1 M).bind fun v1 =>
  (lar 6 v1 x5 M).bind fun v2 =>
  some v2
def b_X20_ranked_21 (x0 x1 x3 x4 x5 : Int) (M : MM) : Option ((Int × Int) ⊕ ((Int × Int) ⊕ (Int))) :=
  (gfi 22 1 x1 M).bind fun v1 =>
  if w32 x5 < w32 v1 then
    (gfr 20 0 x0 M).bind fun v2 =>
    (gfr 22 0 x1 M).bind fun v3 =>
    (lar 6 v3 x5 M).bind fun v4 =>
    (gfr 23 0 v4 M).bind fun v5 =>
    ck 3 v2 M <| (f_X3_common v2 v5 M).bind fun v6 =>
    if w32 v6 = w32 x4 then
      if w32 x3 = 0 then
        xit (xit (j_X20_ranked_59 x1 x5 M))
      else
        j_X20_ranked_70 x0 x1 (x3 + (-1)) x4 x5 M
    else
      j_X20_ranked_70 x0 x1 x3 x4 x5 M
  else
    xit (j_X20_ranked_76 x0 x1 x3 x4 M)
def l_X20_ranked_21 (x0 x1 x3 x4 x5 : Int) (M : MM) : Option ((Int × Int) ⊕ (Int)) := lpN (fun s : Int × Int => b_X20_ranked_21 x0 x1 s.1 x4 s.2 M) FU (x3, x5)
def b_X20_ranked_10 (x0 x1 x3 x4 : Int) (M : MM) : Option ((Int × Int) ⊕ (Int)) :=
  if w32 x4 < w32 160 then
    l_X20_ranked_21 x0 x1 x3 x4 0 M
  else
    xit (some (-1))
def l_X20_ranked_10 (x0 x1 x3 x4 : Int) (M : MM) : Option (Int) := lpN (fun s : Int × Int => b_X20_ranked_10 x0 x1 s.1 s.2 M) FU (x3, x4)
def f_X20_ranked (x0 x1 x2 : Int) (M : MM) : Option (Int) :=
  (gfi 20 4 x0 M).bind fun v1 =>
  l_X20_ranked_10 x0 x1 x2 (v1 - 1) M
theorem s_X20_ranked_76 {g : GG} {d : Nat} (hD : 2 ≤ d) {x0 x1 x3 x4 : Int} {M : MM} {o : AV × MM} {P : ((Int × Int) ⊕ (Int)) → Prop} (c0 : ∀ s : Int × Int, P (.inl s) → Sem g d YX20_ranked 10 [(1, x0), (1, x1), (9, 0), (0, s.1), (0, s.2), (9, 0)] [] M o) (r0 : ∀ r : Int, P (.inr r) → o = ((1, r), M)) {z : (Int × Int) ⊕ (Int)} (h : j_X20_ranked_76 x0 x1 x3 x4 M = some z) (hz : P z) : Sem g d YX20_ranked 76 [(1, x0), (1, x1), (9, 0), (0, x3), (0, x4), (9, 0)] [] M o := by
  delta j_X20_ranked_76 at h
  refine S_iinc dX20_ranked_76 rfl rfl rfl ?_
  change Sem g d YX20_ranked 79 [(1, x0), (1, x1), (9, 0), (0, x3), (0, x4 + 1), (9, 0)] [] M o
  refine S_goto (tgt := 10) dX20_ranked_79 rfl ?_
  exact c0 (x3, x4 + 1) (some_P (P := fun r => P r) h hz)
theorem s_X20_ranked_70 {g : GG} {d : Nat} (hD : 2 ≤ d) {x0 x1 x3 x4 x5 : Int} {M : MM} {o : AV × MM} {P : ((Int × Int) ⊕ ((Int × Int) ⊕ (Int))) → Prop} (c1 : ∀ s : Int × Int, P (.inl s) → Sem g d YX20_ranked 21 [(1, x0), (1, x1), (9, 0), (0, s.1), (0, x4), (0, s.2)] [] M o) (c0 : ∀ s : Int × Int, P (.inr (.inl s)) → Sem g d YX20_ranked 10 [(1, x0), (1, x1), (9, 0), (0, s.1), (0, s.2), (9, 0)] [] M o) (r0 : ∀ r : Int, P (.inr (.inr r)) → o = ((1, r), M)) {z : (Int × Int) ⊕ ((Int × Int) ⊕ (Int))} (h : j_X20_ranked_70 x0 x1 x3 x4 x5 M = some z) (hz : P z) : Sem g d YX20_ranked 70 [(1, x0), (1, x1), (9, 0), (0, x3), (0, x4), (0, x5)] [] M o := by
  delta j_X20_ranked_70 at h
  refine S_iinc dX20_ranked_70 rfl rfl rfl ?_
  change Sem g d YX20_ranked 73 [(1, x0), (1, x1), (9, 0), (0, x3), (0, x4), (0, x5 + 1)] [] M o
  refine S_goto (tgt := 21) dX20_ranked_73 rfl ?_
  exact c1 (x3, x5 + 1) (some_P (P := fun r => P r) h hz)
theorem s_X20_ranked_59 {g : GG} {d : Nat} (hD : 2 ≤ d) {x1 x5 : Int} {M : MM} {o : AV × MM} {P : (Int) → Prop} (r0 : ∀ r : Int, P r → o = ((1, r), M)) {z : Int} (h : j_X20_ranked_59 x1 x5 M = some z) (hz : P z) : Sem g d YX20_ranked 59 [(9, 0), (1, x1), (9, 0), (9, 0), (9, 0), (0, x5)] [] M o := by
  delta j_X20_ranked_59 at h
  refine S_aload_n (i := 1) dX20_ranked_59 rfl rfl ?_
  refine P_gfr FLX20_74 rfl dX20_ranked_60 h (fun v1 h => ?_)
  refine S_iload dX20_ranked_63 rfl ?_
  refine P_lar (t := 6) ⟨by decide, by decide⟩ dX20_ranked_65 h (fun v2 h => ?_)
  obtain rfl := r0 _ (some_P (P := fun r => P r) h hz)
  exact S_areturn dX20_ranked_66 ⟨_, rfl, Or.inl ⟨_, rfl⟩⟩
theorem s_X20_ranked_21 {g : GG} {d : Nat} (hD : 2 ≤ d) {x0 x1 x3 x4 x5 : Int} {M : MM} {o : AV × MM} {P : ((Int × Int) ⊕ ((Int × Int) ⊕ (Int))) → Prop} (c1 : ∀ s : Int × Int, P (.inl s) → Sem g d YX20_ranked 21 [(1, x0), (1, x1), (9, 0), (0, s.1), (0, x4), (0, s.2)] [] M o) (c0 : ∀ s : Int × Int, P (.inr (.inl s)) → Sem g d YX20_ranked 10 [(1, x0), (1, x1), (9, 0), (0, s.1), (0, s.2), (9, 0)] [] M o) (r0 : ∀ r : Int, P (.inr (.inr r)) → o = ((1, r), M)) {z : (Int × Int) ⊕ ((Int × Int) ⊕ (Int))} (h : b_X20_ranked_21 x0 x1 x3 x4 x5 M = some z) (hz : P z) : Sem g d YX20_ranked 21 [(1, x0), (1, x1), (9, 0), (0, x3), (0, x4), (0, x5)] [] M o := by
  delta b_X20_ranked_21 at h
  refine S_iload dX20_ranked_21 rfl ?_
  refine S_aload_n (i := 1) dX20_ranked_23 rfl rfl ?_
  refine P_gfi FLX20_44 rfl dX20_ranked_24 h (fun v1 h => ?_)
  refine P_icmp_ge (tgt := 76) dX20_ranked_27 rfl h (fun h => ?_) (fun h => ?_)
  · refine S_weak (ls' := [(1, x0), (1, x1), (9, 0), (0, x3), (0, x4), (9, 0)]) ⟨Or.inr rfl, ⟨Or.inr rfl, ⟨Or.inl rfl, ⟨Or.inr rfl, ⟨Or.inr rfl, ⟨Or.inl rfl, trivial⟩⟩⟩⟩⟩⟩ ?_
    obtain ⟨z0, h, hz⟩ := xit_some' (P := fun r => P r) h hz
    exact s_X20_ranked_76 hD (P := fun r => P (.inr r)) c0 r0 h hz
  · refine S_aload_n (i := 0) dX20_ranked_30 rfl rfl ?_
    refine P_gfr FLX20_19 rfl dX20_ranked_31 h (fun v2 h => ?_)
    refine S_aload_n (i := 1) dX20_ranked_34 rfl rfl ?_
    refine P_gfr FLX20_74 rfl dX20_ranked_35 h (fun v3 h => ?_)
    refine S_iload dX20_ranked_38 rfl ?_
    refine P_lar (t := 6) ⟨by decide, by decide⟩ dX20_ranked_40 h (fun v4 h => ?_)
    refine P_gfr FLX20_78 rfl dX20_ranked_41 h (fun v5 h => ?_)
    refine P_invVp 0 [(1, v5)] [] CVX3_common MLX20_83 dX20_ranked_44 rfl rfl rfl rfl rfl (by omega) h (fun r h => F_X3_common (by omega) h) (fun v6 h => ?_)
    refine S_iload dX20_ranked_47 rfl ?_
    refine P_icmp_eq (tgt := 55) dX20_ranked_49 rfl h (fun h => ?_) (fun h => ?_)
    · refine S_iload_n (i := 3) dX20_ranked_55 rfl rfl ?_
      refine P_if_ne (tgt := 67) dX20_ranked_56 rfl h (fun h => ?_) (fun h => ?_)
      · refine S_iinc dX20_ranked_67 rfl rfl rfl ?_
        change Sem g d YX20_ranked 70 [(1, x0), (1, x1), (9, 0), (0, x3 + (-1)), (0, x4), (0, x5)] [] M o
        exact s_X20_ranked_70 hD c1 c0 r0 h hz
      · refine S_weak (ls' := [(9, 0), (1, x1), (9, 0), (9, 0), (9, 0), (0, x5)]) ⟨Or.inl rfl, ⟨Or.inr rfl, ⟨Or.inl rfl, ⟨Or.inl rfl, ⟨Or.inl rfl, ⟨Or.inr rfl, trivial⟩⟩⟩⟩⟩⟩ ?_
        obtain ⟨z0, h, hz⟩ := xit_some' (P := fun r => P r) h hz
        obtain ⟨z1, h, hz⟩ := xit_some' (P := fun r => P (.inr r)) h hz
        exact s_X20_ranked_59 hD (P := fun r => P (.inr (.inr r))) r0 h hz
    · refine S_goto (tgt := 70) dX20_ranked_52 rfl ?_
      exact s_X20_ranked_70 hD c1 c0 r0 h hz
theorem sl_X20_ranked_21 {g : GG} {d : Nat} (hD : 2 ≤ d) {x0 x1 x3 x4 x5 : Int} {M : MM} {o : AV × MM} {P : ((Int × Int) ⊕ (Int)) → Prop} (c0 : ∀ s : Int × Int, P (.inl s) → Sem g d YX20_ranked 10 [(1, x0), (1, x1), (9, 0), (0, s.1), (0, s.2), (9, 0)] [] M o) (r0 : ∀ r : Int, P (.inr r) → o = ((1, r), M)) {z : (Int × Int) ⊕ (Int)} (h : l_X20_ranked_21 x0 x1 x3 x4 x5 M = some z) (hz : P z) : Sem g d YX20_ranked 21 [(1, x0), (1, x1), (9, 0), (0, x3), (0, x4), (0, x5)] [] M o := by
  refine lp_sound (S := fun s : Int × Int => Sem g d YX20_ranked 21 [(1, x0), (1, x1), (9, 0), (0, s.1), (0, x4), (0, s.2)] [] M o) (P := P) ?_ FU (x3, x5) z h hz
  intro s x hx hP
  exact s_X20_ranked_21 hD (P := Sum.elim (fun s : Int × Int => Sem g d YX20_ranked 21 [(1, x0), (1, x1), (9, 0), (0, s.1), (0, x4), (0, s.2)] [] M o) P) (fun s h => h) (fun s h => c0 s h) (fun s h => r0 s h) hx hP
theorem s_X20_ranked_10 {g : GG} {d : Nat} (hD : 2 ≤ d) {x0 x1 x3 x4 : Int} {M : MM} {o : AV × MM} {P : ((Int × Int) ⊕ (Int)) → Prop} (c0 : ∀ s : Int × Int, P (.inl s) → Sem g d YX20_ranked 10 [(1, x0), (1, x1), (9, 0), (0, s.1), (0, s.2), (9, 0)] [] M o) (r0 : ∀ r : Int, P (.inr r) → o = ((1, r), M)) {z : (Int × Int) ⊕ (Int)} (h : b_X20_ranked_10 x0 x1 x3 x4 M = some z) (hz : P z) : Sem g d YX20_ranked 10 [(1, x0), (1, x1), (9, 0), (0, x3), (0, x4), (9, 0)] [] M o := by
  delta b_X20_ranked_10 at h
  refine S_iload dX20_ranked_10 rfl ?_
  refine S_sipush (z := 160) dX20_ranked_12 rfl ?_
  refine P_icmp_ge (tgt := 82) dX20_ranked_15 rfl h (fun h => ?_) (fun h => ?_)
  · obtain ⟨z0, h, hz⟩ := xit_some' (P := fun r => P r) h hz
    refine S_null dX20_ranked_82 ?_
    obtain rfl := r0 _ (some_P (P := fun r => P (.inr r)) h hz)
    exact S_areturn dX20_ranked_83 ⟨_, rfl, Or.inl ⟨_, rfl⟩⟩
  · refine S_iconst dX20_ranked_18 rfl ?_
    refine S_istore dX20_ranked_19 (Nat.le_of_ble_eq_true rfl) rfl rfl ?_
    change Sem g d YX20_ranked 21 [(1, x0), (1, x1), (9, 0), (0, x3), (0, x4), (0, 0)] [] M o
    exact sl_X20_ranked_21 hD c0 r0 h hz
theorem sl_X20_ranked_10 {g : GG} {d : Nat} (hD : 2 ≤ d) {x0 x1 x3 x4 : Int} {M : MM} {o : AV × MM} {P : (Int) → Prop} (r0 : ∀ r : Int, P r → o = ((1, r), M)) {z : Int} (h : l_X20_ranked_10 x0 x1 x3 x4 M = some z) (hz : P z) : Sem g d YX20_ranked 10 [(1, x0), (1, x1), (9, 0), (0, x3), (0, x4), (9, 0)] [] M o := by
  refine lp_sound (S := fun s : Int × Int => Sem g d YX20_ranked 10 [(1, x0), (1, x1), (9, 0), (0, s.1), (0, s.2), (9, 0)] [] M o) (P := P) ?_ FU (x3, x4) z h hz
  intro s x hx hP
  exact s_X20_ranked_10 hD (P := Sum.elim (fun s : Int × Int => Sem g d YX20_ranked 10 [(1, x0), (1, x1), (9, 0), (0, s.1), (0, s.2), (9, 0)] [] M o) P) (fun s h => h) (fun s h => r0 s h) hx hP
theorem s_X20_ranked_0 {g : GG} {d : Nat} (hD : 2 ≤ d) {x0 x1 x2 : Int} {M : MM} {o : AV × MM} {P : (Int) → Prop} (r0 : ∀ r : Int, P r → o = ((1, r), M)) {z : Int} (h : f_X20_ranked x0 x1 x2 M = some z) (hz : P z) : Sem g d YX20_ranked 0 [(1, x0), (1, x1), (0, x2), (9, 0), (9, 0), (9, 0)] [] M o := by
  delta f_X20_ranked at h
  refine S_iload_n (i := 2) dX20_ranked_0 rfl rfl ?_
  refine S_istore_n (i := 3) dX20_ranked_1 rfl (Nat.le_of_ble_eq_true rfl) rfl rfl ?_
  change Sem g d YX20_ranked 2 [(1, x0), (1, x1), (0, x2), (0, x2), (9, 0), (9, 0)] [] M o
  refine S_aload_n (i := 0) dX20_ranked_2 rfl rfl ?_
  refine P_gfi FLX20_34 rfl dX20_ranked_3 h (fun v1 h => ?_)
  refine S_iconst dX20_ranked_6 rfl ?_
  refine S_isub dX20_ranked_7 ?_
  refine S_istore dX20_ranked_8 (Nat.le_of_ble_eq_true rfl) rfl rfl ?_
  change Sem g d YX20_ranked 10 [(1, x0), (1, x1), (0, x2), (0, x2), (0, v1 - 1), (9, 0)] [] M o
  refine S_weak (ls' := [(1, x0), (1, x1), (9, 0), (0, x2), (0, v1 - 1), (9, 0)]) ⟨Or.inr rfl, ⟨Or.inr rfl, ⟨Or.inl rfl, ⟨Or.inr rfl, ⟨Or.inr rfl, ⟨Or.inl rfl, trivial⟩⟩⟩⟩⟩⟩ ?_
  exact sl_X20_ranked_10 hD r0 h hz
theorem F_X20_ranked {g : GG} {d : Nat} (hD : 2 ≤ d) {x0 x1 x2 : Int} {M : MM} {r : Int} (h : f_X20_ranked x0 x1 x2 M = some r) : Sem g d YX20_ranked 0 (ini YX20_ranked [(1, x0), (1, x1), (0, x2)]) [] M ((1, r), M) := by
  change Sem g d YX20_ranked 0 [(1, x0), (1, x1), (0, x2), (9, 0), (9, 0), (9, 0)] [] M ((1, r), M)
  exact s_X20_ranked_0 hD (P := fun x => x = r) (fun q e => by rw [e]) h rfl
/-! PeerSearch$Table.contact(ZI)LPeerSearch$Contact; -/
theorem dX20_contact_0 : decode cX20_contact 0 = .ok (.iload_n 2, 1) := by decide +kernel
theorem dX20_contact_1 : decode cX20_contact 1 = .ok (.istore_n 3, 1) := by decide +kernel
theorem dX20_contact_2 : decode cX20_contact 2 = .ok (.iconst 0, 1) := by decide +kernel
theorem dX20_contact_3 : decode cX20_contact 3 = .ok (.istore 4, 2) := by decide +kernel
theorem dX20_contact_5 : decode cX20_contact 5 = .ok (.iload 4, 2) := by decide +kernel
theorem dX20_contact_7 : decode cX20_contact 7 = .ok (.aload_n 0, 1) := by decide +kernel
theorem dX20_contact_8 : decode cX20_contact 8 = .ok (.getfield 34, 3) := by decide +kernel
theorem dX20_contact_11 : decode cX20_contact 11 = .ok (.if_icmp .ge 84, 3) := by decide +kernel
theorem dX20_contact_14 : decode cX20_contact 14 = .ok (.iload_n 1, 1) := by decide +kernel
theorem dX20_contact_15 : decode cX20_contact 15 = .ok (.ifCond .eq 16, 3) := by decide +kernel
theorem dX20_contact_18 : decode cX20_contact 18 = .ok (.aload_n 0, 1) := by decide +kernel
theorem dX20_contact_19 : decode cX20_contact 19 = .ok (.getfield 13, 3) := by decide +kernel
theorem dX20_contact_22 : decode cX20_contact 22 = .ok (.iload 4, 2) := by decide +kernel
theorem dX20_contact_24 : decode cX20_contact 24 = .ok (.aaload, 1) := by decide +kernel
theorem dX20_contact_25 : decode cX20_contact 25 = .ok (.getfield 67, 3) := by decide +kernel
theorem dX20_contact_28 : decode cX20_contact 28 = .ok (.goto 13, 3) := by decide +kernel
theorem dX20_contact_31 : decode cX20_contact 31 = .ok (.aload_n 0, 1) := by decide +kernel
theorem dX20_contact_32 : decode cX20_contact 32 = .ok (.getfield 13, 3) := by decide +kernel
theorem dX20_contact_35 : decode cX20_contact 35 = .ok (.iload 4, 2) := by decide +kernel
theorem dX20_contact_37 : decode cX20_contact 37 = .ok (.aaload, 1) := by decide +kernel
theorem dX20_contact_38 : decode cX20_contact 38 = .ok (.getfield 59, 3) := by decide +kernel
theorem dX20_contact_41 : decode cX20_contact 41 = .ok (.astore 5, 2) := by decide +kernel
theorem dX20_contact_43 : decode cX20_contact 43 = .ok (.iload_n 3, 1) := by decide +kernel
theorem dX20_contact_44 : decode cX20_contact 44 = .ok (.aload 5, 2) := by decide +kernel
theorem dX20_contact_46 : decode cX20_contact 46 = .ok (.getfield 44, 3) := by decide +kernel
theorem dX20_contact_49 : decode cX20_contact 49 = .ok (.if_icmp .ge 32, 3) := by decide +kernel
theorem dX20_contact_52 : decode cX20_contact 52 = .ok (.iload 4, 2) := by decide +kernel
theorem dX20_contact_54 : decode cX20_contact 54 = .ok (.aload_n 0, 1) := by decide +kernel
theorem dX20_contact_55 : decode cX20_contact 55 = .ok (.getfield 34, 3) := by decide +kernel
theorem dX20_contact_58 : decode cX20_contact 58 = .ok (.iconst 1, 1) := by decide +kernel
theorem dX20_contact_59 : decode cX20_contact 59 = .ok (.isub, 1) := by decide +kernel
theorem dX20_contact_60 : decode cX20_contact 60 = .ok (.if_icmp .ge 13, 3) := by decide +kernel
theorem dX20_contact_63 : decode cX20_contact 63 = .ok (.aload 5, 2) := by decide +kernel
theorem dX20_contact_65 : decode cX20_contact 65 = .ok (.getfield 74, 3) := by decide +kernel
theorem dX20_contact_68 : decode cX20_contact 68 = .ok (.iload_n 3, 1) := by decide +kernel
theorem dX20_contact_69 : decode cX20_contact 69 = .ok (.aaload, 1) := by decide +kernel
theorem dX20_contact_70 : decode cX20_contact 70 = .ok (.goto 10, 3) := by decide +kernel
theorem dX20_contact_73 : decode cX20_contact 73 = .ok (.aload_n 0, 1) := by decide +kernel
theorem dX20_contact_74 : decode cX20_contact 74 = .ok (.aload 5, 2) := by decide +kernel
theorem dX20_contact_76 : decode cX20_contact 76 = .ok (.iload_n 3, 1) := by decide +kernel
theorem dX20_contact_77 : decode cX20_contact 77 = .ok (.invokevirtual 117, 3) := by decide +kernel
theorem dX20_contact_80 : decode cX20_contact 80 = .ok (.areturn, 1) := by decide +kernel
theorem dX20_contact_81 : decode cX20_contact 81 = .ok (.iload_n 3, 1) := by decide +kernel
theorem dX20_contact_82 : decode cX20_contact 82 = .ok (.aload 5, 2) := by decide +kernel
theorem dX20_contact_84 : decode cX20_contact 84 = .ok (.getfield 44, 3) := by decide +kernel
theorem dX20_contact_87 : decode cX20_contact 87 = .ok (.isub, 1) := by decide +kernel
theorem dX20_contact_88 : decode cX20_contact 88 = .ok (.istore_n 3, 1) := by decide +kernel
theorem dX20_contact_89 : decode cX20_contact 89 = .ok (.iinc 4 1, 3) := by decide +kernel
theorem dX20_contact_92 : decode cX20_contact 92 = .ok (.goto (-87), 3) := by decide +kernel
theorem dX20_contact_95 : decode cX20_contact 95 = .ok (.aconst_null, 1) := by decide +kernel
theorem dX20_contact_96 : decode cX20_contact 96 = .ok (.areturn, 1) := by decide +kernel
def j_X20_contact_80 (y0 : Int) (M : MM) : Option (Int) :=
  some y0
def j_X20_contact_52 (x0 x3 x4 x5 : Int) (M : MM) : Option (Int) :=
  (gfi 20 4 x0 M).bind fun v1 =>
  if w32 x4 < w32 (v1 - 1) then
    (gfr 22 0 x5 M).bind fun v3 =>
    (lar 6 v3 x3 M).bind fun v4 =>
    j_X20_contact_80 v4 M
  else
    ck 20 x0 M <| (f_X20_ranked x0 x5 x3 M).bind fun v2 =>
    j_X20_contact_80 v2 M
def j_X20_contact_41 (x0 x1 x3 x4 y0 : Int) (M : MM) : Option ((Int × Int) ⊕ (Int)) :=
  (gfi 22 1 y0 M).bind fun v1 =>
  if w32 x3 < w32 v1 then
    xit (j_X20_contact_52 x0 x3 x4 y0 M)
  else
    (gfi 22 1 y0 M).bind fun v2 =>
    cnt (x3 - v2, x4 + 1)
def b_X20_contact_5 (x0 x1 x3 x4 : Int) (M : MM) : Option ((Int × Int) ⊕ (Int)) :=
  (gfi 20 4 x0 M).bind fun v1 =>
  if w32 x4 < w32 v1 then
    if w32 x1 = 0 then
      (gfr 20 3 x0 M).bind fun v2 =>
      (lar 12 v2 x4 M).bind fun v3 =>
      (gfr 21 0 v3 M).bind fun v4 =>
      j_X20_contact_41 x0 x1 x3 x4 v4 M
    else
      (gfr 20 3 x0 M).bind fun v5 =>
      (lar 12 v5 x4 M).bind fun v6 =>
      (gfr 21 1 v6 M).bind fun v7 =>
      j_X20_contact_41 x0 x1 x3 x4 v7 M
  else
    xit (some (-1))
def l_X20_contact_5 (x0 x1 x3 x4 : Int) (M : MM) : Option (Int) := lpN (fun s : Int × Int => b_X20_contact_5 x0 x1 s.1 s.2 M) FU (x3, x4)
def f_X20_contact (x0 x1 x2 : Int) (M : MM) : Option (Int) :=
  l_X20_contact_5 x0 x1 x2 0 M
theorem s_X20_contact_80 {g : GG} {d : Nat} (hD : 3 ≤ d) {y0 : Int} {M : MM} {o : AV × MM} {P : (Int) → Prop} (r0 : ∀ r : Int, P r → o = ((1, r), M)) {z : Int} (h : j_X20_contact_80 y0 M = some z) (hz : P z) : Sem g d YX20_contact 80 [(9, 0), (9, 0), (9, 0), (9, 0), (9, 0), (9, 0)] [(1, y0)] M o := by
  delta j_X20_contact_80 at h
  obtain rfl := r0 _ (some_P (P := fun r => P r) h hz)
  exact S_areturn dX20_contact_80 ⟨_, rfl, Or.inl ⟨_, rfl⟩⟩
theorem s_X20_contact_52 {g : GG} {d : Nat} (hD : 3 ≤ d) {x0 x3 x4 x5 : Int} {M : MM} {o : AV × MM} {P : (Int) → Prop} (r0 : ∀ r : Int, P r → o = ((1, r), M)) {z : Int} (h : j_X20_contact_52 x0 x3 x4 x5 M = some z) (hz : P z) : Sem g d YX20_contact 52 [(1, x0), (9, 0), (9, 0), (0, x3), (0, x4), (1, x5)] [] M o := by
  delta j_X20_contact_52 at h
  refine S_iload dX20_contact_52 rfl ?_
  refine S_aload_n (i := 0) dX20_contact_54 rfl rfl ?_
  refine P_gfi FLX20_34 rfl dX20_contact_55 h (fun v1 h => ?_)
  refine S_iconst dX20_contact_58 rfl ?_
  refine S_isub dX20_contact_59 ?_
  refine P_icmp_ge (tgt := 73) dX20_contact_60 rfl h (fun h => ?_) (fun h => ?_)
  · refine S_aload_n (i := 0) dX20_contact_73 rfl rfl ?_
    refine S_aload dX20_contact_74 rfl ?_
    refine S_iload_n (i := 3) dX20_contact_76 rfl rfl ?_
    refine P_invVp 1 [(1, x5), (0, x3)] [] CVX20_ranked MLX20_117 dX20_contact_77 rfl rfl rfl rfl rfl (by omega) h (fun r h => F_X20_ranked (by omega) h) (fun v2 h => ?_)
    refine S_weak (ls' := [(9, 0), (9, 0), (9, 0), (9, 0), (9, 0), (9, 0)]) ⟨Or.inl rfl, ⟨Or.inl rfl, ⟨Or.inl rfl, ⟨Or.inl rfl, ⟨Or.inl rfl, ⟨Or.inl rfl, trivial⟩⟩⟩⟩⟩⟩ ?_
    exact s_X20_contact_80 hD r0 h hz
  · refine S_aload dX20_contact_63 rfl ?_
    refine P_gfr FLX20_74 rfl dX20_contact_65 h (fun v3 h => ?_)
    refine S_iload_n (i := 3) dX20_contact_68 rfl rfl ?_
    refine P_lar (t := 6) ⟨by decide, by decide⟩ dX20_contact_69 h (fun v4 h => ?_)
    refine S_goto (tgt := 80) dX20_contact_70 rfl ?_
    refine S_weak (ls' := [(9, 0), (9, 0), (9, 0), (9, 0), (9, 0), (9, 0)]) ⟨Or.inl rfl, ⟨Or.inl rfl, ⟨Or.inl rfl, ⟨Or.inl rfl, ⟨Or.inl rfl, ⟨Or.inl rfl, trivial⟩⟩⟩⟩⟩⟩ ?_
    exact s_X20_contact_80 hD r0 h hz
theorem s_X20_contact_41 {g : GG} {d : Nat} (hD : 3 ≤ d) {x0 x1 x3 x4 y0 : Int} {M : MM} {o : AV × MM} {P : ((Int × Int) ⊕ (Int)) → Prop} (c0 : ∀ s : Int × Int, P (.inl s) → Sem g d YX20_contact 5 [(1, x0), (0, x1), (9, 0), (0, s.1), (0, s.2), (9, 0)] [] M o) (r0 : ∀ r : Int, P (.inr r) → o = ((1, r), M)) {z : (Int × Int) ⊕ (Int)} (h : j_X20_contact_41 x0 x1 x3 x4 y0 M = some z) (hz : P z) : Sem g d YX20_contact 41 [(1, x0), (0, x1), (9, 0), (0, x3), (0, x4), (9, 0)] [(1, y0)] M o := by
  delta j_X20_contact_41 at h
  refine S_astore dX20_contact_41 (Nat.le_of_ble_eq_true rfl) rfl rfl ?_
  change Sem g d YX20_contact 43 [(1, x0), (0, x1), (9, 0), (0, x3), (0, x4), (1, y0)] [] M o
  refine S_iload_n (i := 3) dX20_contact_43 rfl rfl ?_
  refine S_aload dX20_contact_44 rfl ?_
  refine P_gfi FLX20_44 rfl dX20_contact_46 h (fun v1 h => ?_)
  refine P_icmp_ge (tgt := 81) dX20_contact_49 rfl h (fun h => ?_) (fun h => ?_)
  · refine S_iload_n (i := 3) dX20_contact_81 rfl rfl ?_
    refine S_aload dX20_contact_82 rfl ?_
    refine P_gfi FLX20_44 rfl dX20_contact_84 h (fun v2 h => ?_)
    refine S_isub dX20_contact_87 ?_
    refine S_istore_n (i := 3) dX20_contact_88 rfl (Nat.le_of_ble_eq_true rfl) rfl rfl ?_
    change Sem g d YX20_contact 89 [(1, x0), (0, x1), (9, 0), (0, x3 - v2), (0, x4), (1, y0)] [] M o
    refine S_iinc dX20_contact_89 rfl rfl rfl ?_
    change Sem g d YX20_contact 92 [(1, x0), (0, x1), (9, 0), (0, x3 - v2), (0, x4 + 1), (1, y0)] [] M o
    refine S_goto (tgt := 5) dX20_contact_92 rfl ?_
    refine S_weak (ls' := [(1, x0), (0, x1), (9, 0), (0, x3 - v2), (0, x4 + 1), (9, 0)]) ⟨Or.inr rfl, ⟨Or.inr rfl, ⟨Or.inl rfl, ⟨Or.inr rfl, ⟨Or.inr rfl, ⟨Or.inl rfl, trivial⟩⟩⟩⟩⟩⟩ ?_
    exact c0 (x3 - v2, x4 + 1) (some_P (P := fun r => P r) h hz)
  · refine S_weak (ls' := [(1, x0), (9, 0), (9, 0), (0, x3), (0, x4), (1, y0)]) ⟨Or.inr rfl, ⟨Or.inl rfl, ⟨Or.inl rfl, ⟨Or.inr rfl, ⟨Or.inr rfl, ⟨Or.inr rfl, trivial⟩⟩⟩⟩⟩⟩ ?_
    obtain ⟨z0, h, hz⟩ := xit_some' (P := fun r => P r) h hz
    exact s_X20_contact_52 hD (P := fun r => P (.inr r)) r0 h hz
theorem s_X20_contact_5 {g : GG} {d : Nat} (hD : 3 ≤ d) {x0 x1 x3 x4 : Int} {M : MM} {o : AV × MM} {P : ((Int × Int) ⊕ (Int)) → Prop} (c0 : ∀ s : Int × Int, P (.inl s) → Sem g d YX20_contact 5 [(1, x0), (0, x1), (9, 0), (0, s.1), (0, s.2), (9, 0)] [] M o) (r0 : ∀ r : Int, P (.inr r) → o = ((1, r), M)) {z : (Int × Int) ⊕ (Int)} (h : b_X20_contact_5 x0 x1 x3 x4 M = some z) (hz : P z) : Sem g d YX20_contact 5 [(1, x0), (0, x1), (9, 0), (0, x3), (0, x4), (9, 0)] [] M o := by
  delta b_X20_contact_5 at h
  refine S_iload dX20_contact_5 rfl ?_
  refine S_aload_n (i := 0) dX20_contact_7 rfl rfl ?_
  refine P_gfi FLX20_34 rfl dX20_contact_8 h (fun v1 h => ?_)
  refine P_icmp_ge (tgt := 95) dX20_contact_11 rfl h (fun h => ?_) (fun h => ?_)
  · obtain ⟨z0, h, hz⟩ := xit_some' (P := fun r => P r) h hz
    refine S_null dX20_contact_95 ?_
    obtain rfl := r0 _ (some_P (P := fun r => P (.inr r)) h hz)
    exact S_areturn dX20_contact_96 ⟨_, rfl, Or.inl ⟨_, rfl⟩⟩
  · refine S_iload_n (i := 1) dX20_contact_14 rfl rfl ?_
    refine P_if_eq (tgt := 31) dX20_contact_15 rfl h (fun h => ?_) (fun h => ?_)
    · refine S_aload_n (i := 0) dX20_contact_31 rfl rfl ?_
      refine P_gfr FLX20_13 rfl dX20_contact_32 h (fun v2 h => ?_)
      refine S_iload dX20_contact_35 rfl ?_
      refine P_lar (t := 12) ⟨by decide, by decide⟩ dX20_contact_37 h (fun v3 h => ?_)
      refine P_gfr FLX20_59 rfl dX20_contact_38 h (fun v4 h => ?_)
      exact s_X20_contact_41 hD c0 r0 h hz
    · refine S_aload_n (i := 0) dX20_contact_18 rfl rfl ?_
      refine P_gfr FLX20_13 rfl dX20_contact_19 h (fun v5 h => ?_)
      refine S_iload dX20_contact_22 rfl ?_
      refine P_lar (t := 12) ⟨by decide, by decide⟩ dX20_contact_24 h (fun v6 h => ?_)
      refine P_gfr FLX20_67 rfl dX20_contact_25 h (fun v7 h => ?_)
      refine S_goto (tgt := 41) dX20_contact_28 rfl ?_
      exact s_X20_contact_41 hD c0 r0 h hz
theorem sl_X20_contact_5 {g : GG} {d : Nat} (hD : 3 ≤ d) {x0 x1 x3 x4 : Int} {M : MM} {o : AV × MM} {P : (Int) → Prop} (r0 : ∀ r : Int, P r → o = ((1, r), M)) {z : Int} (h : l_X20_contact_5 x0 x1 x3 x4 M = some z) (hz : P z) : Sem g d YX20_contact 5 [(1, x0), (0, x1), (9, 0), (0, x3), (0, x4), (9, 0)] [] M o := by
  refine lp_sound (S := fun s : Int × Int => Sem g d YX20_contact 5 [(1, x0), (0, x1), (9, 0), (0, s.1), (0, s.2), (9, 0)] [] M o) (P := P) ?_ FU (x3, x4) z h hz
  intro s x hx hP
  exact s_X20_contact_5 hD (P := Sum.elim (fun s : Int × Int => Sem g d YX20_contact 5 [(1, x0), (0, x1), (9, 0), (0, s.1), (0, s.2), (9, 0)] [] M o) P) (fun s h => h) (fun s h => r0 s h) hx hP
theorem s_X20_contact_0 {g : GG} {d : Nat} (hD : 3 ≤ d) {x0 x1 x2 : Int} {M : MM} {o : AV × MM} {P : (Int) → Prop} (r0 : ∀ r : Int, P r → o = ((1, r), M)) {z : Int} (h : f_X20_contact x0 x1 x2 M = some z) (hz : P z) : Sem g d YX20_contact 0 [(1, x0), (0, x1), (0, x2), (9, 0), (9, 0), (9, 0)] [] M o := by
  delta f_X20_contact at h
  refine S_iload_n (i := 2) dX20_contact_0 rfl rfl ?_
  refine S_istore_n (i := 3) dX20_contact_1 rfl (Nat.le_of_ble_eq_true rfl) rfl rfl ?_
  change Sem g d YX20_contact 2 [(1, x0), (0, x1), (0, x2), (0, x2), (9, 0), (9, 0)] [] M o
  refine S_iconst dX20_contact_2 rfl ?_
  refine S_istore dX20_contact_3 (Nat.le_of_ble_eq_true rfl) rfl rfl ?_
  change Sem g d YX20_contact 5 [(1, x0), (0, x1), (0, x2), (0, x2), (0, 0), (9, 0)] [] M o
  refine S_weak (ls' := [(1, x0), (0, x1), (9, 0), (0, x2), (0, 0), (9, 0)]) ⟨Or.inr rfl, ⟨Or.inr rfl, ⟨Or.inl rfl, ⟨Or.inr rfl, ⟨Or.inr rfl, ⟨Or.inl rfl, trivial⟩⟩⟩⟩⟩⟩ ?_
  exact sl_X20_contact_5 hD r0 h hz
theorem F_X20_contact {g : GG} {d : Nat} (hD : 3 ≤ d) {x0 x1 x2 : Int} {M : MM} {r : Int} (h : f_X20_contact x0 x1 x2 M = some r) : Sem g d YX20_contact 0 (ini YX20_contact [(1, x0), (0, x1), (0, x2)]) [] M ((1, r), M) := by
  change Sem g d YX20_contact 0 [(1, x0), (0, x1), (0, x2), (9, 0), (9, 0), (9, 0)] [] M ((1, r), M)
  exact s_X20_contact_0 hD (P := fun x => x = r) (fun q e => by rw [e]) h rfl
/-! PeerSearch.contact(IZII)I -/
theorem dX1_contact_0 : decode cX1_contact 0 = .ok (.aload_n 0, 1) := by decide +kernel
theorem dX1_contact_1 : decode cX1_contact 1 = .ok (.iload_n 1, 1) := by decide +kernel
theorem dX1_contact_2 : decode cX1_contact 2 = .ok (.invokevirtual 113, 3) := by decide +kernel
theorem dX1_contact_5 : decode cX1_contact 5 = .ok (.ifCond .eq 19, 3) := by decide +kernel
theorem dX1_contact_8 : decode cX1_contact 8 = .ok (.iload_n 3, 1) := by decide +kernel
theorem dX1_contact_9 : decode cX1_contact 9 = .ok (.ifCond .lt 15, 3) := by decide +kernel
theorem dX1_contact_12 : decode cX1_contact 12 = .ok (.iload 4, 2) := by decide +kernel
theorem dX1_contact_14 : decode cX1_contact 14 = .ok (.ifCond .lt 10, 3) := by decide +kernel
theorem dX1_contact_17 : decode cX1_contact 17 = .ok (.iload 4, 2) := by decide +kernel
theorem dX1_contact_19 : decode cX1_contact 19 = .ok (.bipush 6, 2) := by decide +kernel
theorem dX1_contact_21 : decode cX1_contact 21 = .ok (.if_icmp .le 5, 3) := by decide +kernel
theorem dX1_contact_24 : decode cX1_contact 24 = .ok (.iconst (-1), 1) := by decide +kernel
theorem dX1_contact_25 : decode cX1_contact 25 = .ok (.ireturn, 1) := by decide +kernel
theorem dX1_contact_26 : decode cX1_contact 26 = .ok (.aload_n 0, 1) := by decide +kernel
theorem dX1_contact_27 : decode cX1_contact 27 = .ok (.getfield 70, 3) := by decide +kernel
theorem dX1_contact_30 : decode cX1_contact 30 = .ok (.getfield 114, 3) := by decide +kernel
theorem dX1_contact_33 : decode cX1_contact 33 = .ok (.iload_n 1, 1) := by decide +kernel
theorem dX1_contact_34 : decode cX1_contact 34 = .ok (.aaload, 1) := by decide +kernel
theorem dX1_contact_35 : decode cX1_contact 35 = .ok (.astore 5, 2) := by decide +kernel
theorem dX1_contact_37 : decode cX1_contact 37 = .ok (.aload 5, 2) := by decide +kernel
theorem dX1_contact_39 : decode cX1_contact 39 = .ok (.getfield 206, 3) := by decide +kernel
theorem dX1_contact_42 : decode cX1_contact 42 = .ok (.iload_n 2, 1) := by decide +kernel
theorem dX1_contact_43 : decode cX1_contact 43 = .ok (.iload_n 3, 1) := by decide +kernel
theorem dX1_contact_44 : decode cX1_contact 44 = .ok (.invokevirtual 210, 3) := by decide +kernel
theorem dX1_contact_47 : decode cX1_contact 47 = .ok (.astore 6, 2) := by decide +kernel
theorem dX1_contact_49 : decode cX1_contact 49 = .ok (.aload 6, 2) := by decide +kernel
theorem dX1_contact_51 : decode cX1_contact 51 = .ok (.ifnonnull 5, 3) := by decide +kernel
theorem dX1_contact_54 : decode cX1_contact 54 = .ok (.iconst (-1), 1) := by decide +kernel
theorem dX1_contact_55 : decode cX1_contact 55 = .ok (.ireturn, 1) := by decide +kernel
theorem dX1_contact_56 : decode cX1_contact 56 = .ok (.iload 4, 2) := by decide +kernel
theorem dX1_contact_58 : decode cX1_contact 58 = .ok (.ifCond .ne 11, 3) := by decide +kernel
theorem dX1_contact_61 : decode cX1_contact 61 = .ok (.aload 6, 2) := by decide +kernel
theorem dX1_contact_63 : decode cX1_contact 63 = .ok (.getfield 216, 3) := by decide +kernel
theorem dX1_contact_66 : decode cX1_contact 66 = .ok (.goto 39, 3) := by decide +kernel
theorem dX1_contact_69 : decode cX1_contact 69 = .ok (.iload 4, 2) := by decide +kernel
theorem dX1_contact_71 : decode cX1_contact 71 = .ok (.bipush 6, 2) := by decide +kernel
theorem dX1_contact_73 : decode cX1_contact 73 = .ok (.if_icmp .ge 19, 3) := by decide +kernel
theorem dX1_contact_76 : decode cX1_contact 76 = .ok (.aload 6, 2) := by decide +kernel
theorem dX1_contact_78 : decode cX1_contact 78 = .ok (.getfield 387, 3) := by decide +kernel
theorem dX1_contact_81 : decode cX1_contact 81 = .ok (.getfield 105, 3) := by decide +kernel
theorem dX1_contact_84 : decode cX1_contact 84 = .ok (.iload 4, 2) := by decide +kernel
theorem dX1_contact_86 : decode cX1_contact 86 = .ok (.iconst 1, 1) := by decide +kernel
theorem dX1_contact_87 : decode cX1_contact 87 = .ok (.isub, 1) := by decide +kernel
theorem dX1_contact_88 : decode cX1_contact 88 = .ok (.iaload, 1) := by decide +kernel
theorem dX1_contact_89 : decode cX1_contact 89 = .ok (.goto 16, 3) := by decide +kernel
theorem dX1_contact_92 : decode cX1_contact 92 = .ok (.aload 5, 2) := by decide +kernel
theorem dX1_contact_94 : decode cX1_contact 94 = .ok (.getfield 130, 3) := by decide +kernel
theorem dX1_contact_97 : decode cX1_contact 97 = .ok (.aload 6, 2) := by decide +kernel
theorem dX1_contact_99 : decode cX1_contact 99 = .ok (.getfield 387, 3) := by decide +kernel
theorem dX1_contact_102 : decode cX1_contact 102 = .ok (.invokevirtual 388, 3) := by decide +kernel
theorem dX1_contact_105 : decode cX1_contact 105 = .ok (.ireturn, 1) := by decide +kernel
def j_X1_contact_105 (y0 : Int) (M : MM) : Option (Int) :=
  some y0
def j_X1_contact_24 (M : MM) : Option (Int) :=
  some (-1)
def f_X1_contact (x0 x1 x2 x3 x4 : Int) (M : MM) : Option (Int) :=
  ck 1 x0 M <| (f_X1_has x0 x1 M).bind fun v1 =>
  if w32 v1 = 0 then
    j_X1_contact_24 M
  else
    if w32 x3 < 0 then
      j_X1_contact_24 M
    else
      if w32 x4 < 0 then
        j_X1_contact_24 M
      else
        if w32 6 < w32 x4 then
          j_X1_contact_24 M
        else
          (gfr 1 0 x0 M).bind fun v2 =>
          (gfr 6 5 v2 M).bind fun v3 =>
          (lar 7 v3 x1 M).bind fun v4 =>
          (gfr 17 5 v4 M).bind fun v5 =>
          ck 20 v5 M <| (f_X20_contact v5 x2 x3 M).bind fun v6 =>
          if v6 = -1 then
            some (-1)
          else
            if w32 x4 = 0 then
              (gfi 23 1 v6 M).bind fun v13 =>
              j_X1_contact_105 v13 M
            else
              if w32 x4 < w32 6 then
                (gfr 23 0 v6 M).bind fun v10 =>
                (gfr 3 0 v10 M).bind fun v11 =>
                (lai v11 (x4 - 1) M).bind fun v12 =>
                j_X1_contact_105 v12 M
              else
                (gfr 17 2 v4 M).bind fun v7 =>
                (gfr 23 0 v6 M).bind fun v8 =>
                ck 3 v7 M <| (f_X3_common v7 v8 M).bind fun v9 =>
                j_X1_contact_105 v9 M
theorem s_X1_contact_105 {g : GG} {d : Nat} (hD : 4 ≤ d) {y0 : Int} {M : MM} {o : AV × MM} {P : (Int) → Prop} (r0 : ∀ r : Int, P r → o = ((0, r), M)) {z : Int} (h : j_X1_contact_105 y0 M = some z) (hz : P z) : Sem g d YX1_contact 105 [(9, 0), (9, 0), (9, 0), (9, 0), (9, 0), (9, 0), (9, 0)] [(0, y0)] M o := by
  delta j_X1_contact_105 at h
  obtain rfl := r0 _ (some_P (P := fun r => P r) h hz)
  exact P_ret dX1_contact_105 rfl (Or.inl rfl)
theorem s_X1_contact_24 {g : GG} {d : Nat} (hD : 4 ≤ d) {M : MM} {o : AV × MM} {P : (Int) → Prop} (r0 : ∀ r : Int, P r → o = ((0, r), M)) {z : Int} (h : j_X1_contact_24 M = some z) (hz : P z) : Sem g d YX1_contact 24 [(9, 0), (9, 0), (9, 0), (9, 0), (9, 0), (9, 0), (9, 0)] [] M o := by
  delta j_X1_contact_24 at h
  refine S_iconst dX1_contact_24 rfl ?_
  obtain rfl := r0 _ (some_P (P := fun r => P r) h hz)
  exact P_ret dX1_contact_25 rfl (Or.inl rfl)
theorem s_X1_contact_0 {g : GG} {d : Nat} (hD : 4 ≤ d) {x0 x1 x2 x3 x4 : Int} {M : MM} {o : AV × MM} {P : (Int) → Prop} (r0 : ∀ r : Int, P r → o = ((0, r), M)) {z : Int} (h : f_X1_contact x0 x1 x2 x3 x4 M = some z) (hz : P z) : Sem g d YX1_contact 0 [(1, x0), (0, x1), (0, x2), (0, x3), (0, x4), (9, 0), (9, 0)] [] M o := by
  delta f_X1_contact at h
  refine S_aload_n (i := 0) dX1_contact_0 rfl rfl ?_
  refine S_iload_n (i := 1) dX1_contact_1 rfl rfl ?_
  refine P_invVp 0 [(0, x1)] [] CVX1_has MLX1_113 dX1_contact_2 rfl rfl rfl rfl rfl (by omega) h (fun r h => F_X1_has (by omega) h) (fun v1 h => ?_)
  refine P_if_eq (tgt := 24) dX1_contact_5 rfl h (fun h => ?_) (fun h => ?_)
  · refine S_weak (ls' := [(9, 0), (9, 0), (9, 0), (9, 0), (9, 0), (9, 0), (9, 0)]) ⟨Or.inl rfl, ⟨Or.inl rfl, ⟨Or.inl rfl, ⟨Or.inl rfl, ⟨Or.inl rfl, ⟨Or.inl rfl, ⟨Or.inl rfl, trivial⟩⟩⟩⟩⟩⟩⟩ ?_
    exact s_X1_contact_24 hD r0 h hz
  · refine S_iload_n (i := 3) dX1_contact_8 rfl rfl ?_
    refine P_if_lt (tgt := 24) dX1_contact_9 rfl h (fun h => ?_) (fun h => ?_)
    · refine S_weak (ls' := [(9, 0), (9, 0), (9, 0), (9, 0), (9, 0), (9, 0), (9, 0)]) ⟨Or.inl rfl, ⟨Or.inl rfl, ⟨Or.inl rfl, ⟨Or.inl rfl, ⟨Or.inl rfl, ⟨Or.inl rfl, ⟨Or.inl rfl, trivial⟩⟩⟩⟩⟩⟩⟩ ?_
      exact s_X1_contact_24 hD r0 h hz
    · refine S_iload dX1_contact_12 rfl ?_
      refine P_if_lt (tgt := 24) dX1_contact_14 rfl h (fun h => ?_) (fun h => ?_)
      · refine S_weak (ls' := [(9, 0), (9, 0), (9, 0), (9, 0), (9, 0), (9, 0), (9, 0)]) ⟨Or.inl rfl, ⟨Or.inl rfl, ⟨Or.inl rfl, ⟨Or.inl rfl, ⟨Or.inl rfl, ⟨Or.inl rfl, ⟨Or.inl rfl, trivial⟩⟩⟩⟩⟩⟩⟩ ?_
        exact s_X1_contact_24 hD r0 h hz
      · refine S_iload dX1_contact_17 rfl ?_
        refine S_bipush (z := 6) dX1_contact_19 rfl ?_
        refine P_icmp_le (tgt := 26) dX1_contact_21 rfl h (fun h => ?_) (fun h => ?_)
        · refine S_aload_n (i := 0) dX1_contact_26 rfl rfl ?_
          refine P_gfr FLX1_70 rfl dX1_contact_27 h (fun v2 h => ?_)
          refine P_gfr FLX1_114 rfl dX1_contact_30 h (fun v3 h => ?_)
          refine S_iload_n (i := 1) dX1_contact_33 rfl rfl ?_
          refine P_lar (t := 7) ⟨by decide, by decide⟩ dX1_contact_34 h (fun v4 h => ?_)
          refine S_astore dX1_contact_35 (Nat.le_of_ble_eq_true rfl) rfl rfl ?_
          change Sem g d YX1_contact 37 [(1, x0), (0, x1), (0, x2), (0, x3), (0, x4), (1, v4), (9, 0)] [] M o
          refine S_aload dX1_contact_37 rfl ?_
          refine P_gfr FLX1_206 rfl dX1_contact_39 h (fun v5 h => ?_)
          refine S_iload_n (i := 2) dX1_contact_42 rfl rfl ?_
          refine S_iload_n (i := 3) dX1_contact_43 rfl rfl ?_
          refine P_invVp 1 [(0, x2), (0, x3)] [] CVX20_contact MLX1_210 dX1_contact_44 rfl rfl rfl rfl rfl (by omega) h (fun r h => F_X20_contact (by omega) h) (fun v6 h => ?_)
          refine S_astore dX1_contact_47 (Nat.le_of_ble_eq_true rfl) rfl rfl ?_
          change Sem g d YX1_contact 49 [(1, x0), (0, x1), (0, x2), (0, x3), (0, x4), (1, v4), (1, v6)] [] M o
          refine S_aload dX1_contact_49 rfl ?_
          refine P_ifnonnull (tgt := 56) dX1_contact_51 rfl h (fun h => ?_) (fun h => ?_)
          · refine S_iload dX1_contact_56 rfl ?_
            refine P_if_ne (tgt := 69) dX1_contact_58 rfl h (fun h => ?_) (fun h => ?_)
            · refine S_iload dX1_contact_69 rfl ?_
              refine S_bipush (z := 6) dX1_contact_71 rfl ?_
              refine P_icmp_ge (tgt := 92) dX1_contact_73 rfl h (fun h => ?_) (fun h => ?_)
              · refine S_aload dX1_contact_92 rfl ?_
                refine P_gfr FLX1_130 rfl dX1_contact_94 h (fun v7 h => ?_)
                refine S_aload dX1_contact_97 rfl ?_
                refine P_gfr FLX1_387 rfl dX1_contact_99 h (fun v8 h => ?_)
                refine P_invVp 0 [(1, v8)] [] CVX3_common MLX1_388 dX1_contact_102 rfl rfl rfl rfl rfl (by omega) h (fun r h => F_X3_common (by omega) h) (fun v9 h => ?_)
                refine S_weak (ls' := [(9, 0), (9, 0), (9, 0), (9, 0), (9, 0), (9, 0), (9, 0)]) ⟨Or.inl rfl, ⟨Or.inl rfl, ⟨Or.inl rfl, ⟨Or.inl rfl, ⟨Or.inl rfl, ⟨Or.inl rfl, ⟨Or.inl rfl, trivial⟩⟩⟩⟩⟩⟩⟩ ?_
                exact s_X1_contact_105 hD r0 h hz
              · refine S_aload dX1_contact_76 rfl ?_
                refine P_gfr FLX1_387 rfl dX1_contact_78 h (fun v10 h => ?_)
                refine P_gfr FLX1_105 rfl dX1_contact_81 h (fun v11 h => ?_)
                refine S_iload dX1_contact_84 rfl ?_
                refine S_iconst dX1_contact_86 rfl ?_
                refine S_isub dX1_contact_87 ?_
                refine P_lai dX1_contact_88 h (fun v12 h => ?_)
                refine S_goto (tgt := 105) dX1_contact_89 rfl ?_
                refine S_weak (ls' := [(9, 0), (9, 0), (9, 0), (9, 0), (9, 0), (9, 0), (9, 0)]) ⟨Or.inl rfl, ⟨Or.inl rfl, ⟨Or.inl rfl, ⟨Or.inl rfl, ⟨Or.inl rfl, ⟨Or.inl rfl, ⟨Or.inl rfl, trivial⟩⟩⟩⟩⟩⟩⟩ ?_
                exact s_X1_contact_105 hD r0 h hz
            · refine S_aload dX1_contact_61 rfl ?_
              refine P_gfi FLX1_216 rfl dX1_contact_63 h (fun v13 h => ?_)
              refine S_goto (tgt := 105) dX1_contact_66 rfl ?_
              refine S_weak (ls' := [(9, 0), (9, 0), (9, 0), (9, 0), (9, 0), (9, 0), (9, 0)]) ⟨Or.inl rfl, ⟨Or.inl rfl, ⟨Or.inl rfl, ⟨Or.inl rfl, ⟨Or.inl rfl, ⟨Or.inl rfl, ⟨Or.inl rfl, trivial⟩⟩⟩⟩⟩⟩⟩ ?_
              exact s_X1_contact_105 hD r0 h hz
          · refine S_iconst dX1_contact_54 rfl ?_
            obtain rfl := r0 _ (some_P (P := fun r => P r) h hz)
            exact P_ret dX1_contact_55 rfl (Or.inl rfl)
        · refine S_weak (ls' := [(9, 0), (9, 0), (9, 0), (9, 0), (9, 0), (9, 0), (9, 0)]) ⟨Or.inl rfl, ⟨Or.inl rfl, ⟨Or.inl rfl, ⟨Or.inl rfl, ⟨Or.inl rfl, ⟨Or.inl rfl, ⟨Or.inl rfl, trivial⟩⟩⟩⟩⟩⟩⟩ ?_
          exact s_X1_contact_24 hD r0 h hz
theorem F_X1_contact {g : GG} {d : Nat} (hD : 4 ≤ d) {x0 x1 x2 x3 x4 : Int} {M : MM} {r : Int} (h : f_X1_contact x0 x1 x2 x3 x4 M = some r) : Sem g d YX1_contact 0 (ini YX1_contact [(1, x0), (0, x1), (0, x2), (0, x3), (0, x4)]) [] M ((0, r), M) := by
  change Sem g d YX1_contact 0 [(1, x0), (0, x1), (0, x2), (0, x3), (0, x4), (9, 0), (9, 0)] [] M ((0, r), M)
  exact s_X1_contact_0 hD (P := fun x => x = r) (fun q e => by rw [e]) h rfl
/-! PeerSearch$Table.size(Z)I -/
theorem dX20_size_0 : decode cX20_size 0 = .ok (.iconst 0, 1) := by decide +kernel
theorem dX20_size_1 : decode cX20_size 1 = .ok (.istore_n 2, 1) := by decide +kernel
theorem dX20_size_2 : decode cX20_size 2 = .ok (.iconst 0, 1) := by decide +kernel
theorem dX20_size_3 : decode cX20_size 3 = .ok (.istore_n 3, 1) := by decide +kernel
theorem dX20_size_4 : decode cX20_size 4 = .ok (.iload_n 3, 1) := by decide +kernel
theorem dX20_size_5 : decode cX20_size 5 = .ok (.aload_n 0, 1) := by decide +kernel
theorem dX20_size_6 : decode cX20_size 6 = .ok (.getfield 34, 3) := by decide +kernel
theorem dX20_size_9 : decode cX20_size 9 = .ok (.if_icmp .ge 40, 3) := by decide +kernel
theorem dX20_size_12 : decode cX20_size 12 = .ok (.iload_n 2, 1) := by decide +kernel
theorem dX20_size_13 : decode cX20_size 13 = .ok (.iload_n 1, 1) := by decide +kernel
theorem dX20_size_14 : decode cX20_size 14 = .ok (.ifCond .eq 15, 3) := by decide +kernel
theorem dX20_size_17 : decode cX20_size 17 = .ok (.aload_n 0, 1) := by decide +kernel
theorem dX20_size_18 : decode cX20_size 18 = .ok (.getfield 13, 3) := by decide +kernel
theorem dX20_size_21 : decode cX20_size 21 = .ok (.iload_n 3, 1) := by decide +kernel
theorem dX20_size_22 : decode cX20_size 22 = .ok (.aaload, 1) := by decide +kernel
theorem dX20_size_23 : decode cX20_size 23 = .ok (.getfield 67, 3) := by decide +kernel
theorem dX20_size_26 : decode cX20_size 26 = .ok (.goto 12, 3) := by decide +kernel
theorem dX20_size_29 : decode cX20_size 29 = .ok (.aload_n 0, 1) := by decide +kernel
theorem dX20_size_30 : decode cX20_size 30 = .ok (.getfield 13, 3) := by decide +kernel
theorem dX20_size_33 : decode cX20_size 33 = .ok (.iload_n 3, 1) := by decide +kernel
theorem dX20_size_34 : decode cX20_size 34 = .ok (.aaload, 1) := by decide +kernel
theorem dX20_size_35 : decode cX20_size 35 = .ok (.getfield 59, 3) := by decide +kernel
theorem dX20_size_38 : decode cX20_size 38 = .ok (.getfield 44, 3) := by decide +kernel
theorem dX20_size_41 : decode cX20_size 41 = .ok (.iadd, 1) := by decide +kernel
theorem dX20_size_42 : decode cX20_size 42 = .ok (.istore_n 2, 1) := by decide +kernel
theorem dX20_size_43 : decode cX20_size 43 = .ok (.iinc 3 1, 3) := by decide +kernel
theorem dX20_size_46 : decode cX20_size 46 = .ok (.goto (-42), 3) := by decide +kernel
theorem dX20_size_49 : decode cX20_size 49 = .ok (.iload_n 2, 1) := by decide +kernel
theorem dX20_size_50 : decode cX20_size 50 = .ok (.ireturn, 1) := by decide +kernel
def j_X20_size_38 (x0 x1 x3 y0 y1 : Int) (M : MM) : Option ((Int × Int) ⊕ (Int)) :=
  (gfi 22 1 y1 M).bind fun v1 =>
  cnt (y0 + v1, x3 + 1)
def b_X20_size_4 (x0 x1 x2 x3 : Int) (M : MM) : Option ((Int × Int) ⊕ (Int)) :=
  (gfi 20 4 x0 M).bind fun v1 =>
  if w32 x3 < w32 v1 then
    if w32 x1 = 0 then
      (gfr 20 3 x0 M).bind fun v2 =>
      (lar 12 v2 x3 M).bind fun v3 =>
      (gfr 21 0 v3 M).bind fun v4 =>
      j_X20_size_38 x0 x1 x3 x2 v4 M
    else
      (gfr 20 3 x0 M).bind fun v5 =>
      (lar 12 v5 x3 M).bind fun v6 =>
      (gfr 21 1 v6 M).bind fun v7 =>
      j_X20_size_38 x0 x1 x3 x2 v7 M
  else
    xit (some x2)
def l_X20_size_4 (x0 x1 x2 x3 : Int) (M : MM) : Option (Int) := lpN (fun s : Int × Int => b_X20_size_4 x0 x1 s.1 s.2 M) FU (x2, x3)
def f_X20_size (x0 x1 : Int) (M : MM) : Option (Int) :=
  l_X20_size_4 x0 x1 0 0 M
theorem s_X20_size_38 {g : GG} {d : Nat} (hD : 0 ≤ d) {x0 x1 x3 y0 y1 : Int} {M : MM} {o : AV × MM} {P : ((Int × Int) ⊕ (Int)) → Prop} (c0 : ∀ s : Int × Int, P (.inl s) → Sem g d YX20_size 4 [(1, x0), (0, x1), (0, s.1), (0, s.2)] [] M o) (r0 : ∀ r : Int, P (.inr r) → o = ((0, r), M)) {z : (Int × Int) ⊕ (Int)} (h : j_X20_size_38 x0 x1 x3 y0 y1 M = some z) (hz : P z) : Sem g d YX20_size 38 [(1, x0), (0, x1), (9, 0), (0, x3)] [(1, y1), (0, y0)] M o := by
  delta j_X20_size_38 at h
  refine P_gfi FLX20_44 rfl dX20_size_38 h (fun v1 h => ?_)
  refine S_iadd dX20_size_41 ?_
  refine S_istore_n (i := 2) dX20_size_42 rfl (Nat.le_of_ble_eq_true rfl) rfl rfl ?_
  change Sem g d YX20_size 43 [(1, x0), (0, x1), (0, y0 + v1), (0, x3)] [] M o
  refine S_iinc dX20_size_43 rfl rfl rfl ?_
  change Sem g d YX20_size 46 [(1, x0), (0, x1), (0, y0 + v1), (0, x3 + 1)] [] M o
  refine S_goto (tgt := 4) dX20_size_46 rfl ?_
  exact c0 (y0 + v1, x3 + 1) (some_P (P := fun r => P r) h hz)
theorem s_X20_size_4 {g : GG} {d : Nat} (hD : 0 ≤ d) {x0 x1 x2 x3 : Int} {M : MM} {o : AV × MM} {P : ((Int × Int) ⊕ (Int)) → Prop} (c0 : ∀ s : Int × Int, P (.inl s) → Sem g d YX20_size 4 [(1, x0), (0, x1), (0, s.1), (0, s.2)] [] M o) (r0 : ∀ r : Int, P (.inr r) → o = ((0, r), M)) {z : (Int × Int) ⊕ (Int)} (h : b_X20_size_4 x0 x1 x2 x3 M = some z) (hz : P z) : Sem g d YX20_size 4 [(1, x0), (0, x1), (0, x2), (0, x3)] [] M o := by
  delta b_X20_size_4 at h
  refine S_iload_n (i := 3) dX20_size_4 rfl rfl ?_
  refine S_aload_n (i := 0) dX20_size_5 rfl rfl ?_
  refine P_gfi FLX20_34 rfl dX20_size_6 h (fun v1 h => ?_)
  refine P_icmp_ge (tgt := 49) dX20_size_9 rfl h (fun h => ?_) (fun h => ?_)
  · obtain ⟨z0, h, hz⟩ := xit_some' (P := fun r => P r) h hz
    refine S_iload_n (i := 2) dX20_size_49 rfl rfl ?_
    obtain rfl := r0 _ (some_P (P := fun r => P (.inr r)) h hz)
    exact P_ret dX20_size_50 rfl (Or.inl rfl)
  · refine S_iload_n (i := 2) dX20_size_12 rfl rfl ?_
    refine S_iload_n (i := 1) dX20_size_13 rfl rfl ?_
    refine P_if_eq (tgt := 29) dX20_size_14 rfl h (fun h => ?_) (fun h => ?_)
    · refine S_aload_n (i := 0) dX20_size_29 rfl rfl ?_
      refine P_gfr FLX20_13 rfl dX20_size_30 h (fun v2 h => ?_)
      refine S_iload_n (i := 3) dX20_size_33 rfl rfl ?_
      refine P_lar (t := 12) ⟨by decide, by decide⟩ dX20_size_34 h (fun v3 h => ?_)
      refine P_gfr FLX20_59 rfl dX20_size_35 h (fun v4 h => ?_)
      refine S_weak (ls' := [(1, x0), (0, x1), (9, 0), (0, x3)]) ⟨Or.inr rfl, ⟨Or.inr rfl, ⟨Or.inl rfl, ⟨Or.inr rfl, trivial⟩⟩⟩⟩ ?_
      exact s_X20_size_38 hD c0 r0 h hz
    · refine S_aload_n (i := 0) dX20_size_17 rfl rfl ?_
      refine P_gfr FLX20_13 rfl dX20_size_18 h (fun v5 h => ?_)
      refine S_iload_n (i := 3) dX20_size_21 rfl rfl ?_
      refine P_lar (t := 12) ⟨by decide, by decide⟩ dX20_size_22 h (fun v6 h => ?_)
      refine P_gfr FLX20_67 rfl dX20_size_23 h (fun v7 h => ?_)
      refine S_goto (tgt := 38) dX20_size_26 rfl ?_
      refine S_weak (ls' := [(1, x0), (0, x1), (9, 0), (0, x3)]) ⟨Or.inr rfl, ⟨Or.inr rfl, ⟨Or.inl rfl, ⟨Or.inr rfl, trivial⟩⟩⟩⟩ ?_
      exact s_X20_size_38 hD c0 r0 h hz
theorem sl_X20_size_4 {g : GG} {d : Nat} (hD : 0 ≤ d) {x0 x1 x2 x3 : Int} {M : MM} {o : AV × MM} {P : (Int) → Prop} (r0 : ∀ r : Int, P r → o = ((0, r), M)) {z : Int} (h : l_X20_size_4 x0 x1 x2 x3 M = some z) (hz : P z) : Sem g d YX20_size 4 [(1, x0), (0, x1), (0, x2), (0, x3)] [] M o := by
  refine lp_sound (S := fun s : Int × Int => Sem g d YX20_size 4 [(1, x0), (0, x1), (0, s.1), (0, s.2)] [] M o) (P := P) ?_ FU (x2, x3) z h hz
  intro s x hx hP
  exact s_X20_size_4 hD (P := Sum.elim (fun s : Int × Int => Sem g d YX20_size 4 [(1, x0), (0, x1), (0, s.1), (0, s.2)] [] M o) P) (fun s h => h) (fun s h => r0 s h) hx hP
theorem s_X20_size_0 {g : GG} {d : Nat} (hD : 0 ≤ d) {x0 x1 : Int} {M : MM} {o : AV × MM} {P : (Int) → Prop} (r0 : ∀ r : Int, P r → o = ((0, r), M)) {z : Int} (h : f_X20_size x0 x1 M = some z) (hz : P z) : Sem g d YX20_size 0 [(1, x0), (0, x1), (9, 0), (9, 0)] [] M o := by
  delta f_X20_size at h
  refine S_iconst dX20_size_0 rfl ?_
  refine S_istore_n (i := 2) dX20_size_1 rfl (Nat.le_of_ble_eq_true rfl) rfl rfl ?_
  change Sem g d YX20_size 2 [(1, x0), (0, x1), (0, 0), (9, 0)] [] M o
  refine S_iconst dX20_size_2 rfl ?_
  refine S_istore_n (i := 3) dX20_size_3 rfl (Nat.le_of_ble_eq_true rfl) rfl rfl ?_
  change Sem g d YX20_size 4 [(1, x0), (0, x1), (0, 0), (0, 0)] [] M o
  exact sl_X20_size_4 hD r0 h hz
theorem F_X20_size {g : GG} {d : Nat} (hD : 0 ≤ d) {x0 x1 : Int} {M : MM} {r : Int} (h : f_X20_size x0 x1 M = some r) : Sem g d YX20_size 0 (ini YX20_size [(1, x0), (0, x1)]) [] M ((0, r), M) := by
  change Sem g d YX20_size 0 [(1, x0), (0, x1), (9, 0), (9, 0)] [] M ((0, r), M)
  exact s_X20_size_0 hD (P := fun x => x = r) (fun q e => by rw [e]) h rfl
/-! PeerSearch.count(II)I -/
theorem dX1_count_0 : decode cX1_count 0 = .ok (.aload_n 0, 1) := by decide +kernel
theorem dX1_count_1 : decode cX1_count 1 = .ok (.iload_n 1, 1) := by decide +kernel
theorem dX1_count_2 : decode cX1_count 2 = .ok (.invokevirtual 113, 3) := by decide +kernel
theorem dX1_count_5 : decode cX1_count 5 = .ok (.ifCond .ne 5, 3) := by decide +kernel
theorem dX1_count_8 : decode cX1_count 8 = .ok (.iconst (-1), 1) := by decide +kernel
theorem dX1_count_9 : decode cX1_count 9 = .ok (.ireturn, 1) := by decide +kernel
theorem dX1_count_10 : decode cX1_count 10 = .ok (.aload_n 0, 1) := by decide +kernel
theorem dX1_count_11 : decode cX1_count 11 = .ok (.getfield 70, 3) := by decide +kernel
theorem dX1_count_14 : decode cX1_count 14 = .ok (.getfield 114, 3) := by decide +kernel
theorem dX1_count_17 : decode cX1_count 17 = .ok (.iload_n 1, 1) := by decide +kernel
theorem dX1_count_18 : decode cX1_count 18 = .ok (.aaload, 1) := by decide +kernel
theorem dX1_count_19 : decode cX1_count 19 = .ok (.astore_n 3, 1) := by decide +kernel
theorem dX1_count_20 : decode cX1_count 20 = .ok (.iload_n 2, 1) := by decide +kernel
theorem dX1_count_21 : decode cX1_count 21 = .ok (.tableswitch 169 0 13 #[71, 76, 76, 94, 99, 107, 115, 123, 128, 133, 138, 143, 148, 153], 71) := by decide +kernel
theorem dX1_count_92 : decode cX1_count 92 = .ok (.aload_n 3, 1) := by decide +kernel
theorem dX1_count_93 : decode cX1_count 93 = .ok (.getfield 118, 3) := by decide +kernel
theorem dX1_count_96 : decode cX1_count 96 = .ok (.ireturn, 1) := by decide +kernel
theorem dX1_count_97 : decode cX1_count 97 = .ok (.aload_n 3, 1) := by decide +kernel
theorem dX1_count_98 : decode cX1_count 98 = .ok (.getfield 206, 3) := by decide +kernel
theorem dX1_count_101 : decode cX1_count 101 = .ok (.iload_n 2, 1) := by decide +kernel
theorem dX1_count_102 : decode cX1_count 102 = .ok (.iconst 2, 1) := by decide +kernel
theorem dX1_count_103 : decode cX1_count 103 = .ok (.if_icmp .ne 7, 3) := by decide +kernel
theorem dX1_count_106 : decode cX1_count 106 = .ok (.iconst 1, 1) := by decide +kernel
theorem dX1_count_107 : decode cX1_count 107 = .ok (.goto 4, 3) := by decide +kernel
theorem dX1_count_110 : decode cX1_count 110 = .ok (.iconst 0, 1) := by decide +kernel
theorem dX1_count_111 : decode cX1_count 111 = .ok (.invokevirtual 362, 3) := by decide +kernel
theorem dX1_count_114 : decode cX1_count 114 = .ok (.ireturn, 1) := by decide +kernel
theorem dX1_count_115 : decode cX1_count 115 = .ok (.aload_n 3, 1) := by decide +kernel
theorem dX1_count_116 : decode cX1_count 116 = .ok (.getfield 365, 3) := by decide +kernel
theorem dX1_count_119 : decode cX1_count 119 = .ok (.ireturn, 1) := by decide +kernel
theorem dX1_count_120 : decode cX1_count 120 = .ok (.aload_n 3, 1) := by decide +kernel
theorem dX1_count_121 : decode cX1_count 121 = .ok (.getfield 291, 3) := by decide +kernel
theorem dX1_count_124 : decode cX1_count 124 = .ok (.getfield 368, 3) := by decide +kernel
theorem dX1_count_127 : decode cX1_count 127 = .ok (.ireturn, 1) := by decide +kernel
theorem dX1_count_128 : decode cX1_count 128 = .ok (.aload_n 3, 1) := by decide +kernel
theorem dX1_count_129 : decode cX1_count 129 = .ok (.getfield 232, 3) := by decide +kernel
theorem dX1_count_132 : decode cX1_count 132 = .ok (.getfield 369, 3) := by decide +kernel
theorem dX1_count_135 : decode cX1_count 135 = .ok (.ireturn, 1) := by decide +kernel
theorem dX1_count_136 : decode cX1_count 136 = .ok (.aload_n 3, 1) := by decide +kernel
theorem dX1_count_137 : decode cX1_count 137 = .ok (.getfield 232, 3) := by decide +kernel
theorem dX1_count_140 : decode cX1_count 140 = .ok (.getfield 307, 3) := by decide +kernel
theorem dX1_count_143 : decode cX1_count 143 = .ok (.ireturn, 1) := by decide +kernel
theorem dX1_count_144 : decode cX1_count 144 = .ok (.aload_n 3, 1) := by decide +kernel
theorem dX1_count_145 : decode cX1_count 145 = .ok (.getfield 372, 3) := by decide +kernel
theorem dX1_count_148 : decode cX1_count 148 = .ok (.ireturn, 1) := by decide +kernel
theorem dX1_count_149 : decode cX1_count 149 = .ok (.aload_n 3, 1) := by decide +kernel
theorem dX1_count_150 : decode cX1_count 150 = .ok (.getfield 375, 3) := by decide +kernel
theorem dX1_count_153 : decode cX1_count 153 = .ok (.ireturn, 1) := by decide +kernel
theorem dX1_count_154 : decode cX1_count 154 = .ok (.aload_n 3, 1) := by decide +kernel
theorem dX1_count_155 : decode cX1_count 155 = .ok (.getfield 378, 3) := by decide +kernel
theorem dX1_count_158 : decode cX1_count 158 = .ok (.ireturn, 1) := by decide +kernel
theorem dX1_count_159 : decode cX1_count 159 = .ok (.aload_n 3, 1) := by decide +kernel
theorem dX1_count_160 : decode cX1_count 160 = .ok (.getfield 381, 3) := by decide +kernel
theorem dX1_count_163 : decode cX1_count 163 = .ok (.ireturn, 1) := by decide +kernel
theorem dX1_count_164 : decode cX1_count 164 = .ok (.aload_n 3, 1) := by decide +kernel
theorem dX1_count_165 : decode cX1_count 165 = .ok (.getfield 384, 3) := by decide +kernel
theorem dX1_count_168 : decode cX1_count 168 = .ok (.ireturn, 1) := by decide +kernel
theorem dX1_count_169 : decode cX1_count 169 = .ok (.aload_n 3, 1) := by decide +kernel
theorem dX1_count_170 : decode cX1_count 170 = .ok (.getfield 146, 3) := by decide +kernel
theorem dX1_count_173 : decode cX1_count 173 = .ok (.ireturn, 1) := by decide +kernel
theorem dX1_count_174 : decode cX1_count 174 = .ok (.aload_n 3, 1) := by decide +kernel
theorem dX1_count_175 : decode cX1_count 175 = .ok (.getfield 196, 3) := by decide +kernel
theorem dX1_count_178 : decode cX1_count 178 = .ok (.getfield 158, 3) := by decide +kernel
theorem dX1_count_181 : decode cX1_count 181 = .ok (.ifCond .eq 7, 3) := by decide +kernel
theorem dX1_count_184 : decode cX1_count 184 = .ok (.iconst 1, 1) := by decide +kernel
theorem dX1_count_185 : decode cX1_count 185 = .ok (.goto 4, 3) := by decide +kernel
theorem dX1_count_188 : decode cX1_count 188 = .ok (.iconst 0, 1) := by decide +kernel
theorem dX1_count_189 : decode cX1_count 189 = .ok (.ireturn, 1) := by decide +kernel
theorem dX1_count_190 : decode cX1_count 190 = .ok (.iconst (-1), 1) := by decide +kernel
theorem dX1_count_191 : decode cX1_count 191 = .ok (.ireturn, 1) := by decide +kernel
def j_X1_count_189 (y0 : Int) (M : MM) : Option (Int) :=
  some y0
def j_X1_count_111 (y0 y1 : Int) (M : MM) : Option (Int) :=
  ck 20 y0 M <| (f_X20_size y0 y1 M).bind fun v1 =>
  some v1
def f_X1_count (x0 x1 x2 : Int) (M : MM) : Option (Int) :=
  ck 1 x0 M <| (f_X1_has x0 x1 M).bind fun v1 =>
  if w32 v1 = 0 then
    some (-1)
  else
    (gfr 1 0 x0 M).bind fun v2 =>
    (gfr 6 5 v2 M).bind fun v3 =>
    (lar 7 v3 x1 M).bind fun v4 =>
    swt (w32 x2) 0 [
      (
      (gfi 17 3 v4 M).bind fun v5 =>
      some v5
      ),
      (
      (gfr 17 5 v4 M).bind fun v6 =>
      if w32 x2 = w32 2 then
        j_X1_count_111 v6 1 M
      else
        j_X1_count_111 v6 0 M
      ),
      (
      (gfr 17 5 v4 M).bind fun v7 =>
      if w32 x2 = w32 2 then
        j_X1_count_111 v7 1 M
      else
        j_X1_count_111 v7 0 M
      ),
      (
      (gfi 17 9 v4 M).bind fun v8 =>
      some v8
      ),
      (
      (gfr 17 6 v4 M).bind fun v9 =>
      (gfi 18 1 v9 M).bind fun v10 =>
      some v10
      ),
      (
      (gfr 17 7 v4 M).bind fun v11 =>
      (gfi 19 2 v11 M).bind fun v12 =>
      some v12
      ),
      (
      (gfr 17 7 v4 M).bind fun v13 =>
      (gfi 19 1 v13 M).bind fun v14 =>
      some v14
      ),
      (
      (gfi 17 11 v4 M).bind fun v15 =>
      some v15
      ),
      (
      (gfi 17 12 v4 M).bind fun v16 =>
      some v16
      ),
      (
      (gfi 17 13 v4 M).bind fun v17 =>
      some v17
      ),
      (
      (gfi 17 14 v4 M).bind fun v18 =>
      some v18
      ),
      (
      (gfi 17 15 v4 M).bind fun v19 =>
      some v19
      ),
      (
      (gfi 17 4 v4 M).bind fun v20 =>
      some v20
      ),
      (
      (gfr 17 19 v4 M).bind fun v21 =>
      (gfi 11 6 v21 M).bind fun v22 =>
      if w32 v22 = 0 then
        j_X1_count_189 0 M
      else
        j_X1_count_189 1 M
      )
      ] (
      some (-1)
      )
theorem s_X1_count_189 {g : GG} {d : Nat} (hD : 2 ≤ d) {y0 : Int} {M : MM} {o : AV × MM} {P : (Int) → Prop} (r0 : ∀ r : Int, P r → o = ((0, r), M)) {z : Int} (h : j_X1_count_189 y0 M = some z) (hz : P z) : Sem g d YX1_count 189 [(9, 0), (9, 0), (9, 0), (9, 0)] [(0, y0)] M o := by
  delta j_X1_count_189 at h
  obtain rfl := r0 _ (some_P (P := fun r => P r) h hz)
  exact P_ret dX1_count_189 rfl (Or.inl rfl)
theorem s_X1_count_111 {g : GG} {d : Nat} (hD : 2 ≤ d) {y0 y1 : Int} {M : MM} {o : AV × MM} {P : (Int) → Prop} (r0 : ∀ r : Int, P r → o = ((0, r), M)) {z : Int} (h : j_X1_count_111 y0 y1 M = some z) (hz : P z) : Sem g d YX1_count 111 [(9, 0), (9, 0), (9, 0), (9, 0)] [(0, y1), (1, y0)] M o := by
  delta j_X1_count_111 at h
  refine P_invVp 0 [(0, y1)] [] CVX20_size MLX1_362 dX1_count_111 rfl rfl rfl rfl rfl (by omega) h (fun r h => F_X20_size (by omega) h) (fun v1 h => ?_)
  obtain rfl := r0 _ (some_P (P := fun r => P r) h hz)
  exact P_ret dX1_count_114 rfl (Or.inl rfl)
theorem s_X1_count_0 {g : GG} {d : Nat} (hD : 2 ≤ d) {x0 x1 x2 : Int} {M : MM} {o : AV × MM} {P : (Int) → Prop} (r0 : ∀ r : Int, P r → o = ((0, r), M)) {z : Int} (h : f_X1_count x0 x1 x2 M = some z) (hz : P z) : Sem g d YX1_count 0 [(1, x0), (0, x1), (0, x2), (9, 0)] [] M o := by
  delta f_X1_count at h
  refine S_aload_n (i := 0) dX1_count_0 rfl rfl ?_
  refine S_iload_n (i := 1) dX1_count_1 rfl rfl ?_
  refine P_invVp 0 [(0, x1)] [] CVX1_has MLX1_113 dX1_count_2 rfl rfl rfl rfl rfl (by omega) h (fun r h => F_X1_has (by omega) h) (fun v1 h => ?_)
  refine P_if_ne (tgt := 10) dX1_count_5 rfl h (fun h => ?_) (fun h => ?_)
  · refine S_aload_n (i := 0) dX1_count_10 rfl rfl ?_
    refine P_gfr FLX1_70 rfl dX1_count_11 h (fun v2 h => ?_)
    refine P_gfr FLX1_114 rfl dX1_count_14 h (fun v3 h => ?_)
    refine S_iload_n (i := 1) dX1_count_17 rfl rfl ?_
    refine P_lar (t := 7) ⟨by decide, by decide⟩ dX1_count_18 h (fun v4 h => ?_)
    refine S_astore_n (i := 3) dX1_count_19 rfl (Nat.le_of_ble_eq_true rfl) rfl rfl ?_
    change Sem g d YX1_count 20 [(1, x0), (0, x1), (0, x2), (1, v4)] [] M o
    refine S_iload_n (i := 2) dX1_count_20 rfl rfl ?_
    refine P_swt [92, 97, 97, 115, 120, 128, 136, 144, 149, 154, 159, 164, 169, 174] 190 dX1_count_21 rfl rfl rfl rfl h ?_ (fun h => ?_)
    · intro i X hX h t ht
      rcases i with _ | i
      · have e1 := Option.some.inj hX
        have e2 := Option.some.inj ht
        subst e1
        subst e2
        refine S_aload_n (i := 3) dX1_count_92 rfl rfl ?_
        refine P_gfi FLX1_118 rfl dX1_count_93 h (fun v5 h => ?_)
        obtain rfl := r0 _ (some_P (P := fun r => P r) h hz)
        exact P_ret dX1_count_96 rfl (Or.inl rfl)
      rcases i with _ | i
      · have e1 := Option.some.inj hX
        have e2 := Option.some.inj ht
        subst e1
        subst e2
        refine S_aload_n (i := 3) dX1_count_97 rfl rfl ?_
        refine P_gfr FLX1_206 rfl dX1_count_98 h (fun v6 h => ?_)
        refine S_iload_n (i := 2) dX1_count_101 rfl rfl ?_
        refine S_iconst dX1_count_102 rfl ?_
        refine P_icmp_ne (tgt := 110) dX1_count_103 rfl h (fun h => ?_) (fun h => ?_)
        · refine S_iconst dX1_count_110 rfl ?_
          refine S_weak (ls' := [(9, 0), (9, 0), (9, 0), (9, 0)]) ⟨Or.inl rfl, ⟨Or.inl rfl, ⟨Or.inl rfl, ⟨Or.inl rfl, trivial⟩⟩⟩⟩ ?_
          exact s_X1_count_111 hD r0 h hz
        · refine S_iconst dX1_count_106 rfl ?_
          refine S_goto (tgt := 111) dX1_count_107 rfl ?_
          refine S_weak (ls' := [(9, 0), (9, 0), (9, 0), (9, 0)]) ⟨Or.inl rfl, ⟨Or.inl rfl, ⟨Or.inl rfl, ⟨Or.inl rfl, trivial⟩⟩⟩⟩ ?_
          exact s_X1_count_111 hD r0 h hz
      rcases i with _ | i
      · have e1 := Option.some.inj hX
        have e2 := Option.some.inj ht
        subst e1
        subst e2
        refine S_aload_n (i := 3) dX1_count_97 rfl rfl ?_
        refine P_gfr FLX1_206 rfl dX1_count_98 h (fun v7 h => ?_)
        refine S_iload_n (i := 2) dX1_count_101 rfl rfl ?_
        refine S_iconst dX1_count_102 rfl ?_
        refine P_icmp_ne (tgt := 110) dX1_count_103 rfl h (fun h => ?_) (fun h => ?_)
        · refine S_iconst dX1_count_110 rfl ?_
          refine S_weak (ls' := [(9, 0), (9, 0), (9, 0), (9, 0)]) ⟨Or.inl rfl, ⟨Or.inl rfl, ⟨Or.inl rfl, ⟨Or.inl rfl, trivial⟩⟩⟩⟩ ?_
          exact s_X1_count_111 hD r0 h hz
        · refine S_iconst dX1_count_106 rfl ?_
          refine S_goto (tgt := 111) dX1_count_107 rfl ?_
          refine S_weak (ls' := [(9, 0), (9, 0), (9, 0), (9, 0)]) ⟨Or.inl rfl, ⟨Or.inl rfl, ⟨Or.inl rfl, ⟨Or.inl rfl, trivial⟩⟩⟩⟩ ?_
          exact s_X1_count_111 hD r0 h hz
      rcases i with _ | i
      · have e1 := Option.some.inj hX
        have e2 := Option.some.inj ht
        subst e1
        subst e2
        refine S_aload_n (i := 3) dX1_count_115 rfl rfl ?_
        refine P_gfi FLX1_365 rfl dX1_count_116 h (fun v8 h => ?_)
        obtain rfl := r0 _ (some_P (P := fun r => P r) h hz)
        exact P_ret dX1_count_119 rfl (Or.inl rfl)
      rcases i with _ | i
      · have e1 := Option.some.inj hX
        have e2 := Option.some.inj ht
        subst e1
        subst e2
        refine S_aload_n (i := 3) dX1_count_120 rfl rfl ?_
        refine P_gfr FLX1_291 rfl dX1_count_121 h (fun v9 h => ?_)
        refine P_gfi FLX1_368 rfl dX1_count_124 h (fun v10 h => ?_)
        obtain rfl := r0 _ (some_P (P := fun r => P r) h hz)
        exact P_ret dX1_count_127 rfl (Or.inl rfl)
      rcases i with _ | i
      · have e1 := Option.some.inj hX
        have e2 := Option.some.inj ht
        subst e1
        subst e2
        refine S_aload_n (i := 3) dX1_count_128 rfl rfl ?_
        refine P_gfr FLX1_232 rfl dX1_count_129 h (fun v11 h => ?_)
        refine P_gfi FLX1_369 rfl dX1_count_132 h (fun v12 h => ?_)
        obtain rfl := r0 _ (some_P (P := fun r => P r) h hz)
        exact P_ret dX1_count_135 rfl (Or.inl rfl)
      rcases i with _ | i
      · have e1 := Option.some.inj hX
        have e2 := Option.some.inj ht
        subst e1
        subst e2
        refine S_aload_n (i := 3) dX1_count_136 rfl rfl ?_
        refine P_gfr FLX1_232 rfl dX1_count_137 h (fun v13 h => ?_)
        refine P_gfi FLX1_307 rfl dX1_count_140 h (fun v14 h => ?_)
        obtain rfl := r0 _ (some_P (P := fun r => P r) h hz)
        exact P_ret dX1_count_143 rfl (Or.inl rfl)
      rcases i with _ | i
      · have e1 := Option.some.inj hX
        have e2 := Option.some.inj ht
        subst e1
        subst e2
        refine S_aload_n (i := 3) dX1_count_144 rfl rfl ?_
        refine P_gfi FLX1_372 rfl dX1_count_145 h (fun v15 h => ?_)
        obtain rfl := r0 _ (some_P (P := fun r => P r) h hz)
        exact P_ret dX1_count_148 rfl (Or.inl rfl)
      rcases i with _ | i
      · have e1 := Option.some.inj hX
        have e2 := Option.some.inj ht
        subst e1
        subst e2
        refine S_aload_n (i := 3) dX1_count_149 rfl rfl ?_
        refine P_gfi FLX1_375 rfl dX1_count_150 h (fun v16 h => ?_)
        obtain rfl := r0 _ (some_P (P := fun r => P r) h hz)
        exact P_ret dX1_count_153 rfl (Or.inl rfl)
      rcases i with _ | i
      · have e1 := Option.some.inj hX
        have e2 := Option.some.inj ht
        subst e1
        subst e2
        refine S_aload_n (i := 3) dX1_count_154 rfl rfl ?_
        refine P_gfi FLX1_378 rfl dX1_count_155 h (fun v17 h => ?_)
        obtain rfl := r0 _ (some_P (P := fun r => P r) h hz)
        exact P_ret dX1_count_158 rfl (Or.inl rfl)
      rcases i with _ | i
      · have e1 := Option.some.inj hX
        have e2 := Option.some.inj ht
        subst e1
        subst e2
        refine S_aload_n (i := 3) dX1_count_159 rfl rfl ?_
        refine P_gfi FLX1_381 rfl dX1_count_160 h (fun v18 h => ?_)
        obtain rfl := r0 _ (some_P (P := fun r => P r) h hz)
        exact P_ret dX1_count_163 rfl (Or.inl rfl)
      rcases i with _ | i
      · have e1 := Option.some.inj hX
        have e2 := Option.some.inj ht
        subst e1
        subst e2
        refine S_aload_n (i := 3) dX1_count_164 rfl rfl ?_
        refine P_gfi FLX1_384 rfl dX1_count_165 h (fun v19 h => ?_)
        obtain rfl := r0 _ (some_P (P := fun r => P r) h hz)
        exact P_ret dX1_count_168 rfl (Or.inl rfl)
      rcases i with _ | i
      · have e1 := Option.some.inj hX
        have e2 := Option.some.inj ht
        subst e1
        subst e2
        refine S_aload_n (i := 3) dX1_count_169 rfl rfl ?_
        refine P_gfi FLX1_146 rfl dX1_count_170 h (fun v20 h => ?_)
        obtain rfl := r0 _ (some_P (P := fun r => P r) h hz)
        exact P_ret dX1_count_173 rfl (Or.inl rfl)
      rcases i with _ | i
      · have e1 := Option.some.inj hX
        have e2 := Option.some.inj ht
        subst e1
        subst e2
        refine S_aload_n (i := 3) dX1_count_174 rfl rfl ?_
        refine P_gfr FLX1_196 rfl dX1_count_175 h (fun v21 h => ?_)
        refine P_gfi FLX1_158 rfl dX1_count_178 h (fun v22 h => ?_)
        refine P_if_eq (tgt := 188) dX1_count_181 rfl h (fun h => ?_) (fun h => ?_)
        · refine S_iconst dX1_count_188 rfl ?_
          refine S_weak (ls' := [(9, 0), (9, 0), (9, 0), (9, 0)]) ⟨Or.inl rfl, ⟨Or.inl rfl, ⟨Or.inl rfl, ⟨Or.inl rfl, trivial⟩⟩⟩⟩ ?_
          exact s_X1_count_189 hD r0 h hz
        · refine S_iconst dX1_count_184 rfl ?_
          refine S_goto (tgt := 189) dX1_count_185 rfl ?_
          refine S_weak (ls' := [(9, 0), (9, 0), (9, 0), (9, 0)]) ⟨Or.inl rfl, ⟨Or.inl rfl, ⟨Or.inl rfl, ⟨Or.inl rfl, trivial⟩⟩⟩⟩ ?_
          exact s_X1_count_189 hD r0 h hz
      cases hX
    · refine S_iconst dX1_count_190 rfl ?_
      obtain rfl := r0 _ (some_P (P := fun r => P r) h hz)
      exact P_ret dX1_count_191 rfl (Or.inl rfl)
  · refine S_iconst dX1_count_8 rfl ?_
    obtain rfl := r0 _ (some_P (P := fun r => P r) h hz)
    exact P_ret dX1_count_9 rfl (Or.inl rfl)
theorem F_X1_count {g : GG} {d : Nat} (hD : 2 ≤ d) {x0 x1 x2 : Int} {M : MM} {r : Int} (h : f_X1_count x0 x1 x2 M = some r) : Sem g d YX1_count 0 (ini YX1_count [(1, x0), (0, x1), (0, x2)]) [] M ((0, r), M) := by
  change Sem g d YX1_count 0 [(1, x0), (0, x1), (0, x2), (9, 0)] [] M ((0, r), M)
  exact s_X1_count_0 hD (P := fun x => x = r) (fun q e => by rw [e]) h rfl
/-! PeerSearch$Store.clear()V -/
theorem dX18_clear_0 : decode cX18_clear 0 = .ok (.aload_n 0, 1) := by decide +kernel
theorem dX18_clear_1 : decode cX18_clear 1 = .ok (.iconst 0, 1) := by decide +kernel
theorem dX18_clear_2 : decode cX18_clear 2 = .ok (.putfield 38, 3) := by decide +kernel
theorem dX18_clear_5 : decode cX18_clear 5 = .ok (.return_, 1) := by decide +kernel
def f_X18_clear (x0 : Int) (M : MM) : Option (MM) :=
  (pfi 18 1 x0 0 M).bind fun M1 =>
  some M1
theorem s_X18_clear_0 {g : GG} {d : Nat} (hD : 0 ≤ d) {x0 : Int} {M : MM} {o : AV × MM} {P : (MM) → Prop} (r0 : ∀ r : MM, P r → o = ((9, 0), r)) {z : MM} (h : f_X18_clear x0 M = some z) (hz : P z) : Sem g d YX18_clear 0 [(1, x0)] [] M o := by
  delta f_X18_clear at h
  refine S_aload_n (i := 0) dX18_clear_0 rfl rfl ?_
  refine S_iconst dX18_clear_1 rfl ?_
  refine P_pfi FLX18_38 FPX18_38 rfl dX18_clear_2 h (fun M1 h => ?_)
  obtain rfl := r0 _ (some_P (P := fun r => P r) h hz)
  exact S_return dX18_clear_5 rfl
theorem F_X18_clear {g : GG} {d : Nat} (hD : 0 ≤ d) {x0 : Int} {M : MM} {r : MM} (h : f_X18_clear x0 M = some r) : Sem g d YX18_clear 0 (ini YX18_clear [(1, x0)]) [] M ((9, 0), r) := by
  change Sem g d YX18_clear 0 [(1, x0)] [] M ((9, 0), r)
  exact s_X18_clear_0 hD (P := fun x => x = r) (fun q e => by rw [e]) h rfl
/-! PeerSearch$Pool.give(LPeerSearch$Contact;)V -/
theorem dX9_give_0 : decode cX9_give 0 = .ok (.aload_n 0, 1) := by decide +kernel
theorem dX9_give_1 : decode cX9_give 1 = .ok (.getfield 15, 3) := by decide +kernel
theorem dX9_give_4 : decode cX9_give 4 = .ok (.aload_n 0, 1) := by decide +kernel
theorem dX9_give_5 : decode cX9_give 5 = .ok (.getfield 9, 3) := by decide +kernel
theorem dX9_give_8 : decode cX9_give 8 = .ok (.arraylength, 1) := by decide +kernel
theorem dX9_give_9 : decode cX9_give 9 = .ok (.if_icmp .ne 43, 3) := by decide +kernel
theorem dX9_give_12 : decode cX9_give 12 = .ok (.iconst 2, 1) := by decide +kernel
theorem dX9_give_13 : decode cX9_give 13 = .ok (.aload_n 0, 1) := by decide +kernel
theorem dX9_give_14 : decode cX9_give 14 = .ok (.getfield 15, 3) := by decide +kernel
theorem dX9_give_17 : decode cX9_give 17 = .ok (.imul, 1) := by decide +kernel
theorem dX9_give_18 : decode cX9_give 18 = .ok (.anewarray 7, 3) := by decide +kernel
theorem dX9_give_21 : decode cX9_give 21 = .ok (.astore_n 2, 1) := by decide +kernel
theorem dX9_give_22 : decode cX9_give 22 = .ok (.iconst 0, 1) := by decide +kernel
theorem dX9_give_23 : decode cX9_give 23 = .ok (.istore_n 3, 1) := by decide +kernel
theorem dX9_give_24 : decode cX9_give 24 = .ok (.iload_n 3, 1) := by decide +kernel
theorem dX9_give_25 : decode cX9_give 25 = .ok (.aload_n 0, 1) := by decide +kernel
theorem dX9_give_26 : decode cX9_give 26 = .ok (.getfield 15, 3) := by decide +kernel
theorem dX9_give_29 : decode cX9_give 29 = .ok (.if_icmp .ge 18, 3) := by decide +kernel
theorem dX9_give_32 : decode cX9_give 32 = .ok (.aload_n 2, 1) := by decide +kernel
theorem dX9_give_33 : decode cX9_give 33 = .ok (.iload_n 3, 1) := by decide +kernel
theorem dX9_give_34 : decode cX9_give 34 = .ok (.aload_n 0, 1) := by decide +kernel
theorem dX9_give_35 : decode cX9_give 35 = .ok (.getfield 9, 3) := by decide +kernel
theorem dX9_give_38 : decode cX9_give 38 = .ok (.iload_n 3, 1) := by decide +kernel
theorem dX9_give_39 : decode cX9_give 39 = .ok (.aaload, 1) := by decide +kernel
theorem dX9_give_40 : decode cX9_give 40 = .ok (.aastore, 1) := by decide +kernel
theorem dX9_give_41 : decode cX9_give 41 = .ok (.iinc 3 1, 3) := by decide +kernel
theorem dX9_give_44 : decode cX9_give 44 = .ok (.goto (-20), 3) := by decide +kernel
theorem dX9_give_47 : decode cX9_give 47 = .ok (.aload_n 0, 1) := by decide +kernel
theorem dX9_give_48 : decode cX9_give 48 = .ok (.aload_n 2, 1) := by decide +kernel
theorem dX9_give_49 : decode cX9_give 49 = .ok (.putfield 9, 3) := by decide +kernel
theorem dX9_give_52 : decode cX9_give 52 = .ok (.aload_n 0, 1) := by decide +kernel
theorem dX9_give_53 : decode cX9_give 53 = .ok (.getfield 9, 3) := by decide +kernel
theorem dX9_give_56 : decode cX9_give 56 = .ok (.aload_n 0, 1) := by decide +kernel
theorem dX9_give_57 : decode cX9_give 57 = .ok (.getfield 15, 3) := by decide +kernel
theorem dX9_give_60 : decode cX9_give 60 = .ok (.aload_n 1, 1) := by decide +kernel
theorem dX9_give_61 : decode cX9_give 61 = .ok (.aastore, 1) := by decide +kernel
theorem dX9_give_62 : decode cX9_give 62 = .ok (.aload_n 0, 1) := by decide +kernel
theorem dX9_give_63 : decode cX9_give 63 = .ok (.dup, 1) := by decide +kernel
theorem dX9_give_64 : decode cX9_give 64 = .ok (.getfield 15, 3) := by decide +kernel
theorem dX9_give_67 : decode cX9_give 67 = .ok (.iconst 1, 1) := by decide +kernel
theorem dX9_give_68 : decode cX9_give 68 = .ok (.iadd, 1) := by decide +kernel
theorem dX9_give_69 : decode cX9_give 69 = .ok (.putfield 15, 3) := by decide +kernel
theorem dX9_give_72 : decode cX9_give 72 = .ok (.return_, 1) := by decide +kernel
def j_X9_give_52 (x0 x1 : Int) (M : MM) : Option (MM) :=
  (gfr 9 0 x0 M).bind fun v1 =>
  (gfi 9 1 x0 M).bind fun v2 =>
  (sar 6 v1 v2 x1 M).bind fun M1 =>
  (gfi 9 1 x0 M1).bind fun v3 =>
  (pfi 9 1 x0 (v3 + 1) M1).bind fun M2 =>
  some M2
def j_X9_give_47 (x0 x1 x2 : Int) (M : MM) : Option (MM) :=
  (pfr 9 0 x0 x2 M).bind fun M1 =>
  j_X9_give_52 x0 x1 M1
def b_X9_give_24 (x0 x1 x2 x3 : Int) (M : MM) : Option ((Int × MM) ⊕ (MM)) :=
  (gfi 9 1 x0 M).bind fun v1 =>
  if w32 x3 < w32 v1 then
    (gfr 9 0 x0 M).bind fun v2 =>
    (lar 6 v2 x3 M).bind fun v3 =>
    (sar 6 x2 x3 v3 M).bind fun M1 =>
    cnt (x3 + 1, M1)
  else
    xit (j_X9_give_47 x0 x1 x2 M)
def l_X9_give_24 (x0 x1 x2 x3 : Int) (M : MM) : Option (MM) := lpN (fun s : Int × MM => b_X9_give_24 x0 x1 x2 s.1 s.2) FU (x3, M)
def f_X9_give (x0 x1 : Int) (M : MM) : Option (MM) :=
  (gfi 9 1 x0 M).bind fun v1 =>
  (gfr 9 0 x0 M).bind fun v2 =>
  (aln 6 v2 M).bind fun v3 =>
  if w32 v1 = w32 v3 then
    (gfi 9 1 x0 M).bind fun v4 =>
    (nar 470 (2 * v4) M).bind fun r1 =>
    l_X9_give_24 x0 x1 r1.1 0 r1.2
  else
    j_X9_give_52 x0 x1 M
theorem s_X9_give_52 {g : GG} {d : Nat} (hD : 0 ≤ d) {x0 x1 : Int} {M : MM} {o : AV × MM} {P : (MM) → Prop} (r0 : ∀ r : MM, P r → o = ((9, 0), r)) {z : MM} (h : j_X9_give_52 x0 x1 M = some z) (hz : P z) : Sem g d YX9_give 52 [(1, x0), (1, x1), (9, 0), (9, 0)] [] M o := by
  delta j_X9_give_52 at h
  refine S_aload_n (i := 0) dX9_give_52 rfl rfl ?_
  refine P_gfr FLX9_9 rfl dX9_give_53 h (fun v1 h => ?_)
  refine S_aload_n (i := 0) dX9_give_56 rfl rfl ?_
  refine P_gfi FLX9_15 rfl dX9_give_57 h (fun v2 h => ?_)
  refine S_aload_n (i := 1) dX9_give_60 rfl rfl ?_
  refine P_sar (t := 6) ⟨by decide, by decide⟩ dX9_give_61 h (fun M1 h => ?_)
  refine S_aload_n (i := 0) dX9_give_62 rfl rfl ?_
  refine S_dup dX9_give_63 (Nat.le_of_ble_eq_true rfl) ?_
  refine P_gfi FLX9_15 rfl dX9_give_64 h (fun v3 h => ?_)
  refine S_iconst dX9_give_67 rfl ?_
  refine S_iadd dX9_give_68 ?_
  refine P_pfi FLX9_15 FPX9_15 rfl dX9_give_69 h (fun M2 h => ?_)
  obtain rfl := r0 _ (some_P (P := fun r => P r) h hz)
  exact S_return dX9_give_72 rfl
theorem s_X9_give_47 {g : GG} {d : Nat} (hD : 0 ≤ d) {x0 x1 x2 : Int} {M : MM} {o : AV × MM} {P : (MM) → Prop} (r0 : ∀ r : MM, P r → o = ((9, 0), r)) {z : MM} (h : j_X9_give_47 x0 x1 x2 M = some z) (hz : P z) : Sem g d YX9_give 47 [(1, x0), (1, x1), (1, x2), (9, 0)] [] M o := by
  delta j_X9_give_47 at h
  refine S_aload_n (i := 0) dX9_give_47 rfl rfl ?_
  refine S_aload_n (i := 2) dX9_give_48 rfl rfl ?_
  refine P_pfr FLX9_9 FPX9_9 (Or.inr ⟨_, rfl⟩) rfl dX9_give_49 h (fun M1 h => ?_)
  refine S_weak (ls' := [(1, x0), (1, x1), (9, 0), (9, 0)]) ⟨Or.inr rfl, ⟨Or.inr rfl, ⟨Or.inl rfl, ⟨Or.inl rfl, trivial⟩⟩⟩⟩ ?_
  exact s_X9_give_52 hD r0 h hz
theorem s_X9_give_24 {g : GG} {d : Nat} (hD : 0 ≤ d) {x0 x1 x2 x3 : Int} {M : MM} {o : AV × MM} {P : ((Int × MM) ⊕ (MM)) → Prop} (c0 : ∀ s : Int × MM, P (.inl s) → Sem g d YX9_give 24 [(1, x0), (1, x1), (1, x2), (0, s.1)] [] s.2 o) (r0 : ∀ r : MM, P (.inr r) → o = ((9, 0), r)) {z : (Int × MM) ⊕ (MM)} (h : b_X9_give_24 x0 x1 x2 x3 M = some z) (hz : P z) : Sem g d YX9_give 24 [(1, x0), (1, x1), (1, x2), (0, x3)] [] M o := by
  delta b_X9_give_24 at h
  refine S_iload_n (i := 3) dX9_give_24 rfl rfl ?_
  refine S_aload_n (i := 0) dX9_give_25 rfl rfl ?_
  refine P_gfi FLX9_15 rfl dX9_give_26 h (fun v1 h => ?_)
  refine P_icmp_ge (tgt := 47) dX9_give_29 rfl h (fun h => ?_) (fun h => ?_)
  · refine S_weak (ls' := [(1, x0), (1, x1), (1, x2), (9, 0)]) ⟨Or.inr rfl, ⟨Or.inr rfl, ⟨Or.inr rfl, ⟨Or.inl rfl, trivial⟩⟩⟩⟩ ?_
    obtain ⟨z0, h, hz⟩ := xit_some' (P := fun r => P r) h hz
    exact s_X9_give_47 hD (P := fun r => P (.inr r)) r0 h hz
  · refine S_aload_n (i := 2) dX9_give_32 rfl rfl ?_
    refine S_iload_n (i := 3) dX9_give_33 rfl rfl ?_
    refine S_aload_n (i := 0) dX9_give_34 rfl rfl ?_
    refine P_gfr FLX9_9 rfl dX9_give_35 h (fun v2 h => ?_)
    refine S_iload_n (i := 3) dX9_give_38 rfl rfl ?_
    refine P_lar (t := 6) ⟨by decide, by decide⟩ dX9_give_39 h (fun v3 h => ?_)
    refine P_sar (t := 6) ⟨by decide, by decide⟩ dX9_give_40 h (fun M1 h => ?_)
    refine S_iinc dX9_give_41 rfl rfl rfl ?_
    change Sem g d YX9_give 44 [(1, x0), (1, x1), (1, x2), (0, x3 + 1)] [] M1 o
    refine S_goto (tgt := 24) dX9_give_44 rfl ?_
    exact c0 (x3 + 1, M1) (some_P (P := fun r => P r) h hz)
theorem sl_X9_give_24 {g : GG} {d : Nat} (hD : 0 ≤ d) {x0 x1 x2 x3 : Int} {M : MM} {o : AV × MM} {P : (MM) → Prop} (r0 : ∀ r : MM, P r → o = ((9, 0), r)) {z : MM} (h : l_X9_give_24 x0 x1 x2 x3 M = some z) (hz : P z) : Sem g d YX9_give 24 [(1, x0), (1, x1), (1, x2), (0, x3)] [] M o := by
  refine lp_sound (S := fun s : Int × MM => Sem g d YX9_give 24 [(1, x0), (1, x1), (1, x2), (0, s.1)] [] s.2 o) (P := P) ?_ FU (x3, M) z h hz
  intro s x hx hP
  exact s_X9_give_24 hD (P := Sum.elim (fun s : Int × MM => Sem g d YX9_give 24 [(1, x0), (1, x1), (1, x2), (0, s.1)] [] s.2 o) P) (fun s h => h) (fun s h => r0 s h) hx hP
theorem s_X9_give_0 {g : GG} {d : Nat} (hD : 0 ≤ d) {x0 x1 : Int} {M : MM} {o : AV × MM} {P : (MM) → Prop} (r0 : ∀ r : MM, P r → o = ((9, 0), r)) {z : MM} (h : f_X9_give x0 x1 M = some z) (hz : P z) : Sem g d YX9_give 0 [(1, x0), (1, x1), (9, 0), (9, 0)] [] M o := by
  delta f_X9_give at h
  refine S_aload_n (i := 0) dX9_give_0 rfl rfl ?_
  refine P_gfi FLX9_15 rfl dX9_give_1 h (fun v1 h => ?_)
  refine S_aload_n (i := 0) dX9_give_4 rfl rfl ?_
  refine P_gfr FLX9_9 rfl dX9_give_5 h (fun v2 h => ?_)
  refine P_aln (t := 6) (by decide) dX9_give_8 h (fun v3 h => ?_)
  refine P_icmp_ne (tgt := 52) dX9_give_9 rfl h (fun h => ?_) (fun h => ?_)
  · exact s_X9_give_52 hD r0 h hz
  · refine S_iconst dX9_give_12 rfl ?_
    refine S_aload_n (i := 0) dX9_give_13 rfl rfl ?_
    refine P_gfi FLX9_15 rfl dX9_give_14 h (fun v4 h => ?_)
    refine S_imul dX9_give_17 ?_
    refine P_naa (k := 470) (by decide) ⟨by decide, by decide⟩ q376 dX9_give_18 h (fun r1 h => ?_)
    refine S_astore_n (i := 2) dX9_give_21 rfl (Nat.le_of_ble_eq_true rfl) rfl rfl ?_
    change Sem g d YX9_give 22 [(1, x0), (1, x1), (1, r1.1), (9, 0)] [] r1.2 o
    refine S_iconst dX9_give_22 rfl ?_
    refine S_istore_n (i := 3) dX9_give_23 rfl (Nat.le_of_ble_eq_true rfl) rfl rfl ?_
    change Sem g d YX9_give 24 [(1, x0), (1, x1), (1, r1.1), (0, 0)] [] r1.2 o
    exact sl_X9_give_24 hD r0 h hz
theorem F_X9_give {g : GG} {d : Nat} (hD : 0 ≤ d) {x0 x1 : Int} {M : MM} {r : MM} (h : f_X9_give x0 x1 M = some r) : Sem g d YX9_give 0 (ini YX9_give [(1, x0), (1, x1)]) [] M ((9, 0), r) := by
  change Sem g d YX9_give 0 [(1, x0), (1, x1), (9, 0), (9, 0)] [] M ((9, 0), r)
  exact s_X9_give_0 hD (P := fun x => x = r) (fun q e => by rw [e]) h rfl
/-! PeerSearch$Row.remove(I)LPeerSearch$Contact; -/
theorem dX22_remove_0 : decode cX22_remove 0 = .ok (.aload_n 0, 1) := by decide +kernel
theorem dX22_remove_1 : decode cX22_remove 1 = .ok (.getfield 11, 3) := by decide +kernel
theorem dX22_remove_4 : decode cX22_remove 4 = .ok (.iload_n 1, 1) := by decide +kernel
theorem dX22_remove_5 : decode cX22_remove 5 = .ok (.aaload, 1) := by decide +kernel
theorem dX22_remove_6 : decode cX22_remove 6 = .ok (.astore_n 2, 1) := by decide +kernel
theorem dX22_remove_7 : decode cX22_remove 7 = .ok (.aload_n 0, 1) := by decide +kernel
theorem dX22_remove_8 : decode cX22_remove 8 = .ok (.dup, 1) := by decide +kernel
theorem dX22_remove_9 : decode cX22_remove 9 = .ok (.getfield 17, 3) := by decide +kernel
theorem dX22_remove_12 : decode cX22_remove 12 = .ok (.iconst 1, 1) := by decide +kernel
theorem dX22_remove_13 : decode cX22_remove 13 = .ok (.isub, 1) := by decide +kernel
theorem dX22_remove_14 : decode cX22_remove 14 = .ok (.putfield 17, 3) := by decide +kernel
theorem dX22_remove_17 : decode cX22_remove 17 = .ok (.iload_n 1, 1) := by decide +kernel
theorem dX22_remove_18 : decode cX22_remove 18 = .ok (.istore_n 3, 1) := by decide +kernel
theorem dX22_remove_19 : decode cX22_remove 19 = .ok (.iload_n 3, 1) := by decide +kernel
theorem dX22_remove_20 : decode cX22_remove 20 = .ok (.aload_n 0, 1) := by decide +kernel
theorem dX22_remove_21 : decode cX22_remove 21 = .ok (.getfield 17, 3) := by decide +kernel
theorem dX22_remove_24 : decode cX22_remove 24 = .ok (.if_icmp .ge 23, 3) := by decide +kernel
theorem dX22_remove_27 : decode cX22_remove 27 = .ok (.aload_n 0, 1) := by decide +kernel
theorem dX22_remove_28 : decode cX22_remove 28 = .ok (.getfield 11, 3) := by decide +kernel
theorem dX22_remove_31 : decode cX22_remove 31 = .ok (.iload_n 3, 1) := by decide +kernel
theorem dX22_remove_32 : decode cX22_remove 32 = .ok (.aload_n 0, 1) := by decide +kernel
theorem dX22_remove_33 : decode cX22_remove 33 = .ok (.getfield 11, 3) := by decide +kernel
theorem dX22_remove_36 : decode cX22_remove 36 = .ok (.iload_n 3, 1) := by decide +kernel
theorem dX22_remove_37 : decode cX22_remove 37 = .ok (.iconst 1, 1) := by decide +kernel
theorem dX22_remove_38 : decode cX22_remove 38 = .ok (.iadd, 1) := by decide +kernel
theorem dX22_remove_39 : decode cX22_remove 39 = .ok (.aaload, 1) := by decide +kernel
theorem dX22_remove_40 : decode cX22_remove 40 = .ok (.aastore, 1) := by decide +kernel
theorem dX22_remove_41 : decode cX22_remove 41 = .ok (.iinc 3 1, 3) := by decide +kernel
theorem dX22_remove_44 : decode cX22_remove 44 = .ok (.goto (-25), 3) := by decide +kernel
theorem dX22_remove_47 : decode cX22_remove 47 = .ok (.aload_n 2, 1) := by decide +kernel
theorem dX22_remove_48 : decode cX22_remove 48 = .ok (.areturn, 1) := by decide +kernel
def b_X22_remove_19 (x0 x2 x3 : Int) (M : MM) : Option ((Int × MM) ⊕ (Int × MM)) :=
  (gfi 22 1 x0 M).bind fun v1 =>
  if w32 x3 < w32 v1 then
    (gfr 22 0 x0 M).bind fun v2 =>
    (gfr 22 0 x0 M).bind fun v3 =>
    (lar 6 v3 (x3 + 1) M).bind fun v4 =>
    (sar 6 v2 x3 v4 M).bind fun M1 =>
    cnt (x3 + 1, M1)
  else
    xit (some (x2, M))
def l_X22_remove_19 (x0 x2 x3 : Int) (M : MM) : Option (Int × MM) := lpN (fun s : Int × MM => b_X22_remove_19 x0 x2 s.1 s.2) FU (x3, M)
def f_X22_remove (x0 x1 : Int) (M : MM) : Option (Int × MM) :=
  (gfr 22 0 x0 M).bind fun v1 =>
  (lar 6 v1 x1 M).bind fun v2 =>
  (gfi 22 1 x0 M).bind fun v3 =>
  (pfi 22 1 x0 (v3 - 1) M).bind fun M1 =>
  l_X22_remove_19 x0 v2 x1 M1
theorem s_X22_remove_19 {g : GG} {d : Nat} (hD : 0 ≤ d) {x0 x2 x3 : Int} {M : MM} {o : AV × MM} {P : ((Int × MM) ⊕ (Int × MM)) → Prop} (c0 : ∀ s : Int × MM, P (.inl s) → Sem g d YX22_remove 19 [(1, x0), (9, 0), (1, x2), (0, s.1)] [] s.2 o) (r0 : ∀ r : Int × MM, P (.inr r) → o = ((1, r.1), r.2)) {z : (Int × MM) ⊕ (Int × MM)} (h : b_X22_remove_19 x0 x2 x3 M = some z) (hz : P z) : Sem g d YX22_remove 19 [(1, x0), (9, 0), (1, x2), (0, x3)] [] M o := by
  delta b_X22_remove_19 at h
  refine S_iload_n (i := 3) dX22_remove_19 rfl rfl ?_
  refine S_aload_n (i := 0) dX22_remove_20 rfl rfl ?_
  refine P_gfi FLX22_17 rfl dX22_remove_21 h (fun v1 h => ?_)
  refine P_icmp_ge (tgt := 47) dX22_remove_24 rfl h (fun h => ?_) (fun h => ?_)
  · obtain ⟨z0, h, hz⟩ := xit_some' (P := fun r => P r) h hz
    refine S_aload_n (i := 2) dX22_remove_47 rfl rfl ?_
    obtain rfl := r0 _ (some_P (P := fun r => P (.inr r)) h hz)
    exact S_areturn dX22_remove_48 ⟨_, rfl, Or.inl ⟨_, rfl⟩⟩
  · refine S_aload_n (i := 0) dX22_remove_27 rfl rfl ?_
    refine P_gfr FLX22_11 rfl dX22_remove_28 h (fun v2 h => ?_)
    refine S_iload_n (i := 3) dX22_remove_31 rfl rfl ?_
    refine S_aload_n (i := 0) dX22_remove_32 rfl rfl ?_
    refine P_gfr FLX22_11 rfl dX22_remove_33 h (fun v3 h => ?_)
    refine S_iload_n (i := 3) dX22_remove_36 rfl rfl ?_
    refine S_iconst dX22_remove_37 rfl ?_
    refine S_iadd dX22_remove_38 ?_
    refine P_lar (t := 6) ⟨by decide, by decide⟩ dX22_remove_39 h (fun v4 h => ?_)
    refine P_sar (t := 6) ⟨by decide, by decide⟩ dX22_remove_40 h (fun M1 h => ?_)
    refine S_iinc dX22_remove_41 rfl rfl rfl ?_
    change Sem g d YX22_remove 44 [(1, x0), (9, 0), (1, x2), (0, x3 + 1)] [] M1 o
    refine S_goto (tgt := 19) dX22_remove_44 rfl ?_
    exact c0 (x3 + 1, M1) (some_P (P := fun r => P r) h hz)
theorem sl_X22_remove_19 {g : GG} {d : Nat} (hD : 0 ≤ d) {x0 x2 x3 : Int} {M : MM} {o : AV × MM} {P : (Int × MM) → Prop} (r0 : ∀ r : Int × MM, P r → o = ((1, r.1), r.2)) {z : Int × MM} (h : l_X22_remove_19 x0 x2 x3 M = some z) (hz : P z) : Sem g d YX22_remove 19 [(1, x0), (9, 0), (1, x2), (0, x3)] [] M o := by
  refine lp_sound (S := fun s : Int × MM => Sem g d YX22_remove 19 [(1, x0), (9, 0), (1, x2), (0, s.1)] [] s.2 o) (P := P) ?_ FU (x3, M) z h hz
  intro s x hx hP
  exact s_X22_remove_19 hD (P := Sum.elim (fun s : Int × MM => Sem g d YX22_remove 19 [(1, x0), (9, 0), (1, x2), (0, s.1)] [] s.2 o) P) (fun s h => h) (fun s h => r0 s h) hx hP
theorem s_X22_remove_0 {g : GG} {d : Nat} (hD : 0 ≤ d) {x0 x1 : Int} {M : MM} {o : AV × MM} {P : (Int × MM) → Prop} (r0 : ∀ r : Int × MM, P r → o = ((1, r.1), r.2)) {z : Int × MM} (h : f_X22_remove x0 x1 M = some z) (hz : P z) : Sem g d YX22_remove 0 [(1, x0), (0, x1), (9, 0), (9, 0)] [] M o := by
  delta f_X22_remove at h
  refine S_aload_n (i := 0) dX22_remove_0 rfl rfl ?_
  refine P_gfr FLX22_11 rfl dX22_remove_1 h (fun v1 h => ?_)
  refine S_iload_n (i := 1) dX22_remove_4 rfl rfl ?_
  refine P_lar (t := 6) ⟨by decide, by decide⟩ dX22_remove_5 h (fun v2 h => ?_)
  refine S_astore_n (i := 2) dX22_remove_6 rfl (Nat.le_of_ble_eq_true rfl) rfl rfl ?_
  change Sem g d YX22_remove 7 [(1, x0), (0, x1), (1, v2), (9, 0)] [] M o
  refine S_aload_n (i := 0) dX22_remove_7 rfl rfl ?_
  refine S_dup dX22_remove_8 (Nat.le_of_ble_eq_true rfl) ?_
  refine P_gfi FLX22_17 rfl dX22_remove_9 h (fun v3 h => ?_)
  refine S_iconst dX22_remove_12 rfl ?_
  refine S_isub dX22_remove_13 ?_
  refine P_pfi FLX22_17 FPX22_17 rfl dX22_remove_14 h (fun M1 h => ?_)
  refine S_iload_n (i := 1) dX22_remove_17 rfl rfl ?_
  refine S_istore_n (i := 3) dX22_remove_18 rfl (Nat.le_of_ble_eq_true rfl) rfl rfl ?_
  change Sem g d YX22_remove 19 [(1, x0), (0, x1), (1, v2), (0, x1)] [] M1 o
  refine S_weak (ls' := [(1, x0), (9, 0), (1, v2), (0, x1)]) ⟨Or.inr rfl, ⟨Or.inl rfl, ⟨Or.inr rfl, ⟨Or.inr rfl, trivial⟩⟩⟩⟩ ?_
  exact sl_X22_remove_19 hD r0 h hz
theorem F_X22_remove {g : GG} {d : Nat} (hD : 0 ≤ d) {x0 x1 : Int} {M : MM} {r : Int × MM} (h : f_X22_remove x0 x1 M = some r) : Sem g d YX22_remove 0 (ini YX22_remove [(1, x0), (0, x1)]) [] M ((1, r.1), r.2) := by
  change Sem g d YX22_remove 0 [(1, x0), (0, x1), (9, 0), (9, 0)] [] M ((1, r.1), r.2)
  exact s_X22_remove_0 hD (P := fun x => x = r) (fun q e => by rw [e]) h rfl
/-! PeerSearch$Table.empty(LPeerSearch$Row;)V -/
theorem dX20_empty_0 : decode cX20_empty 0 = .ok (.aload_n 1, 1) := by decide +kernel
theorem dX20_empty_1 : decode cX20_empty 1 = .ok (.getfield 44, 3) := by decide +kernel
theorem dX20_empty_4 : decode cX20_empty 4 = .ok (.ifCond .le 23, 3) := by decide +kernel
theorem dX20_empty_7 : decode cX20_empty 7 = .ok (.aload_n 0, 1) := by decide +kernel
theorem dX20_empty_8 : decode cX20_empty 8 = .ok (.getfield 27, 3) := by decide +kernel
theorem dX20_empty_11 : decode cX20_empty 11 = .ok (.aload_n 1, 1) := by decide +kernel
theorem dX20_empty_12 : decode cX20_empty 12 = .ok (.aload_n 1, 1) := by decide +kernel
theorem dX20_empty_13 : decode cX20_empty 13 = .ok (.getfield 44, 3) := by decide +kernel
theorem dX20_empty_16 : decode cX20_empty 16 = .ok (.iconst 1, 1) := by decide +kernel
theorem dX20_empty_17 : decode cX20_empty 17 = .ok (.isub, 1) := by decide +kernel
theorem dX20_empty_18 : decode cX20_empty 18 = .ok (.invokevirtual 49, 3) := by decide +kernel
theorem dX20_empty_21 : decode cX20_empty 21 = .ok (.invokevirtual 53, 3) := by decide +kernel
theorem dX20_empty_24 : decode cX20_empty 24 = .ok (.goto (-24), 3) := by decide +kernel
theorem dX20_empty_27 : decode cX20_empty 27 = .ok (.return_, 1) := by decide +kernel
def b_X20_empty_0 (x0 x1 : Int) (M : MM) : Option ((MM) ⊕ (MM)) :=
  (gfi 22 1 x1 M).bind fun v1 =>
  if 0 < w32 v1 then
    (gfr 20 2 x0 M).bind fun v2 =>
    (gfi 22 1 x1 M).bind fun v3 =>
    ck 22 x1 M <| (f_X22_remove x1 (v3 - 1) M).bind fun r1 =>
    ck 9 v2 r1.2 <| (f_X9_give v2 r1.1 r1.2).bind fun M1 =>
    cnt M1
  else
    xit (some M)
def l_X20_empty_0 (x0 x1 : Int) (M : MM) : Option (MM) := lpN (fun s : MM => b_X20_empty_0 x0 x1 s) FU M
def f_X20_empty (x0 x1 : Int) (M : MM) : Option (MM) := l_X20_empty_0 x0 x1 M
theorem s_X20_empty_0 {g : GG} {d : Nat} (hD : 1 ≤ d) {x0 x1 : Int} {M : MM} {o : AV × MM} {P : ((MM) ⊕ (MM)) → Prop} (c0 : ∀ s : MM, P (.inl s) → Sem g d YX20_empty 0 [(1, x0), (1, x1)] [] s o) (r0 : ∀ r : MM, P (.inr r) → o = ((9, 0), r)) {z : (MM) ⊕ (MM)} (h : b_X20_empty_0 x0 x1 M = some z) (hz : P z) : Sem g d YX20_empty 0 [(1, x0), (1, x1)] [] M o := by
  delta b_X20_empty_0 at h
  refine S_aload_n (i := 1) dX20_empty_0 rfl rfl ?_
  refine P_gfi FLX20_44 rfl dX20_empty_1 h (fun v1 h => ?_)
  refine P_if_le (tgt := 27) dX20_empty_4 rfl h (fun h => ?_) (fun h => ?_)
  · obtain ⟨z0, h, hz⟩ := xit_some' (P := fun r => P r) h hz
    obtain rfl := r0 _ (some_P (P := fun r => P (.inr r)) h hz)
    exact S_return dX20_empty_27 rfl
  · refine S_aload_n (i := 0) dX20_empty_7 rfl rfl ?_
    refine P_gfr FLX20_27 rfl dX20_empty_8 h (fun v2 h => ?_)
    refine S_aload_n (i := 1) dX20_empty_11 rfl rfl ?_
    refine S_aload_n (i := 1) dX20_empty_12 rfl rfl ?_
    refine P_gfi FLX20_44 rfl dX20_empty_13 h (fun v3 h => ?_)
    refine S_iconst dX20_empty_16 rfl ?_
    refine S_isub dX20_empty_17 ?_
    refine P_invVe 1 [(0, v3 - 1)] [(1, v2)] CVX22_remove MLX20_49 dX20_empty_18 rfl rfl rfl rfl rfl (by omega) h (fun r h => F_X22_remove (by omega) h) (fun r1 h => ?_)
    refine P_invVm' [(1, r1.1)] [] CVX9_give MLX20_53 dX20_empty_21 rfl rfl rfl rfl (by omega) h (fun r h => F_X9_give (by omega) h) (fun M1 h => ?_)
    refine S_goto (tgt := 0) dX20_empty_24 rfl ?_
    exact c0 M1 (some_P (P := fun r => P r) h hz)
theorem sl_X20_empty_0 {g : GG} {d : Nat} (hD : 1 ≤ d) {x0 x1 : Int} {M : MM} {o : AV × MM} {P : (MM) → Prop} (r0 : ∀ r : MM, P r → o = ((9, 0), r)) {z : MM} (h : l_X20_empty_0 x0 x1 M = some z) (hz : P z) : Sem g d YX20_empty 0 [(1, x0), (1, x1)] [] M o := by
  refine lp_sound (S := fun s : MM => Sem g d YX20_empty 0 [(1, x0), (1, x1)] [] s o) (P := P) ?_ FU M z h hz
  intro s x hx hP
  exact s_X20_empty_0 hD (P := Sum.elim (fun s : MM => Sem g d YX20_empty 0 [(1, x0), (1, x1)] [] s o) P) (fun s h => h) (fun s h => r0 s h) hx hP
theorem F_X20_empty {g : GG} {d : Nat} (hD : 1 ≤ d) {x0 x1 : Int} {M : MM} {r : MM} (h : f_X20_empty x0 x1 M = some r) : Sem g d YX20_empty 0 (ini YX20_empty [(1, x0), (1, x1)]) [] M ((9, 0), r) := by
  change Sem g d YX20_empty 0 [(1, x0), (1, x1)] [] M ((9, 0), r)
  exact sl_X20_empty_0 hD (P := fun x => x = r) (fun q e => by rw [e]) h rfl
/-! PeerSearch$Row.<init>(I)V -/
theorem dX22_init_0 : decode cX22_init 0 = .ok (.aload_n 0, 1) := by decide +kernel
theorem dX22_init_1 : decode cX22_init 1 = .ok (.invokespecial 3, 3) := by decide +kernel
theorem dX22_init_4 : decode cX22_init 4 = .ok (.aload_n 0, 1) := by decide +kernel
theorem dX22_init_5 : decode cX22_init 5 = .ok (.iload_n 1, 1) := by decide +kernel
theorem dX22_init_6 : decode cX22_init 6 = .ok (.anewarray 9, 3) := by decide +kernel
theorem dX22_init_9 : decode cX22_init 9 = .ok (.putfield 11, 3) := by decide +kernel
theorem dX22_init_12 : decode cX22_init 12 = .ok (.return_, 1) := by decide +kernel
def f_X22_init (x0 x1 : Int) (M : MM) : Option (MM) :=
  nn x0 <|
  (nar 486 x1 M).bind fun r1 =>
  (pfr 22 0 x0 r1.1 r1.2).bind fun M1 =>
  some M1
theorem s_X22_init_0 {g : GG} {d : Nat} (hD : 1 ≤ d) {x0 x1 : Int} {M : MM} {o : AV × MM} {P : (MM) → Prop} (r0 : ∀ r : MM, P r → o = ((9, 0), r)) {z : MM} (h : f_X22_init x0 x1 M = some z) (hz : P z) : Sem g d YX22_init 0 [(1, x0), (0, x1)] [] M o := by
  delta f_X22_init at h
  refine S_aload_n (i := 0) dX22_init_0 rfl rfl ?_
  refine P_obj q803 dX22_init_1 rfl (by omega) h (fun h => ?_)
  refine S_aload_n (i := 0) dX22_init_4 rfl rfl ?_
  refine S_iload_n (i := 1) dX22_init_5 rfl rfl ?_
  refine P_naa (k := 486) (by decide) ⟨by decide, by decide⟩ q804 dX22_init_6 h (fun r1 h => ?_)
  refine P_pfr FLX22_11 FPX22_11 (Or.inr ⟨_, rfl⟩) rfl dX22_init_9 h (fun M1 h => ?_)
  obtain rfl := r0 _ (some_P (P := fun r => P r) h hz)
  exact S_return dX22_init_12 rfl
theorem F_X22_init {g : GG} {d : Nat} (hD : 1 ≤ d) {x0 x1 : Int} {M : MM} {r : MM} (h : f_X22_init x0 x1 M = some r) : Sem g d YX22_init 0 (ini YX22_init [(1, x0), (0, x1)]) [] M ((9, 0), r) := by
  change Sem g d YX22_init 0 [(1, x0), (0, x1)] [] M ((9, 0), r)
  exact s_X22_init_0 hD (P := fun x => x = r) (fun q e => by rw [e]) h rfl
/-! PeerSearch$Bucket.<init>(I)V -/
theorem dX21_init_0 : decode cX21_init 0 = .ok (.aload_n 0, 1) := by decide +kernel
theorem dX21_init_1 : decode cX21_init 1 = .ok (.invokespecial 1, 3) := by decide +kernel
theorem dX21_init_4 : decode cX21_init 4 = .ok (.aload_n 0, 1) := by decide +kernel
theorem dX21_init_5 : decode cX21_init 5 = .ok (.new 7, 3) := by decide +kernel
theorem dX21_init_8 : decode cX21_init 8 = .ok (.dup, 1) := by decide +kernel
theorem dX21_init_9 : decode cX21_init 9 = .ok (.iload_n 1, 1) := by decide +kernel
theorem dX21_init_10 : decode cX21_init 10 = .ok (.invokespecial 9, 3) := by decide +kernel
theorem dX21_init_13 : decode cX21_init 13 = .ok (.putfield 12, 3) := by decide +kernel
theorem dX21_init_16 : decode cX21_init 16 = .ok (.aload_n 0, 1) := by decide +kernel
theorem dX21_init_17 : decode cX21_init 17 = .ok (.new 7, 3) := by decide +kernel
theorem dX21_init_20 : decode cX21_init 20 = .ok (.dup, 1) := by decide +kernel
theorem dX21_init_21 : decode cX21_init 21 = .ok (.iload_n 1, 1) := by decide +kernel
theorem dX21_init_22 : decode cX21_init 22 = .ok (.invokespecial 9, 3) := by decide +kernel
theorem dX21_init_25 : decode cX21_init 25 = .ok (.putfield 18, 3) := by decide +kernel
theorem dX21_init_28 : decode cX21_init 28 = .ok (.return_, 1) := by decide +kernel
def f_X21_init (x0 x1 : Int) (M : MM) : Option (MM) :=
  nn x0 <|
  (nob 22 2 23 M).bind fun r1 =>
  nn r1.1 <| (f_X22_init r1.1 x1 r1.2).bind fun M1 =>
  (pfr 21 0 x0 r1.1 M1).bind fun M2 =>
  (nob 22 2 24 M2).bind fun r2 =>
  nn r2.1 <| (f_X22_init r2.1 x1 r2.2).bind fun M3 =>
  (pfr 21 1 x0 r2.1 M3).bind fun M4 =>
  some M4
theorem s_X21_init_0 {g : GG} {d : Nat} (hD : 2 ≤ d) {x0 x1 : Int} {M : MM} {o : AV × MM} {P : (MM) → Prop} (r0 : ∀ r : MM, P r → o = ((9, 0), r)) {z : MM} (h : f_X21_init x0 x1 M = some z) (hz : P z) : Sem g d YX21_init 0 [(1, x0), (0, x1)] [] M o := by
  delta f_X21_init at h
  refine S_aload_n (i := 0) dX21_init_0 rfl rfl ?_
  refine P_obj q797 dX21_init_1 rfl (by omega) h (fun h => ?_)
  refine S_aload_n (i := 0) dX21_init_4 rfl rfl ?_
  refine P_nob NLX21_7 rfl dX21_init_5 h (fun r1 h => ?_)
  refine S_dup dX21_init_8 (Nat.le_of_ble_eq_true rfl) ?_
  refine S_iload_n (i := 1) dX21_init_9 rfl rfl ?_
  refine P_invI' [(0, x1)] [(1, r1.1), (1, x0)] CIX22_init MLX21_9 dX21_init_10 rfl rfl rfl rfl (by omega) h (fun r h => F_X22_init (by omega) h) (fun M1 h => ?_)
  refine P_pfr FLX21_12 FPX21_12 (Or.inl ⟨_, rfl⟩) rfl dX21_init_13 h (fun M2 h => ?_)
  refine S_aload_n (i := 0) dX21_init_16 rfl rfl ?_
  refine P_nob NLX21_7 rfl dX21_init_17 h (fun r2 h => ?_)
  refine S_dup dX21_init_20 (Nat.le_of_ble_eq_true rfl) ?_
  refine S_iload_n (i := 1) dX21_init_21 rfl rfl ?_
  refine P_invI' [(0, x1)] [(1, r2.1), (1, x0)] CIX22_init MLX21_9 dX21_init_22 rfl rfl rfl rfl (by omega) h (fun r h => F_X22_init (by omega) h) (fun M3 h => ?_)
  refine P_pfr FLX21_18 FPX21_18 (Or.inl ⟨_, rfl⟩) rfl dX21_init_25 h (fun M4 h => ?_)
  obtain rfl := r0 _ (some_P (P := fun r => P r) h hz)
  exact S_return dX21_init_28 rfl
theorem F_X21_init {g : GG} {d : Nat} (hD : 2 ≤ d) {x0 x1 : Int} {M : MM} {r : MM} (h : f_X21_init x0 x1 M = some r) : Sem g d YX21_init 0 (ini YX21_init [(1, x0), (0, x1)]) [] M ((9, 0), r) := by
  change Sem g d YX21_init 0 [(1, x0), (0, x1)] [] M ((9, 0), r)
  exact s_X21_init_0 hD (P := fun x => x = r) (fun q e => by rw [e]) h rfl
/-! PeerSearch$Table.open()LPeerSearch$Bucket; -/
theorem dX20_open_0 : decode cX20_open 0 = .ok (.aload_n 0, 1) := by decide +kernel
theorem dX20_open_1 : decode cX20_open 1 = .ok (.getfield 13, 3) := by decide +kernel
theorem dX20_open_4 : decode cX20_open 4 = .ok (.aload_n 0, 1) := by decide +kernel
theorem dX20_open_5 : decode cX20_open 5 = .ok (.getfield 34, 3) := by decide +kernel
theorem dX20_open_8 : decode cX20_open 8 = .ok (.aaload, 1) := by decide +kernel
theorem dX20_open_9 : decode cX20_open 9 = .ok (.ifnonnull 23, 3) := by decide +kernel
theorem dX20_open_12 : decode cX20_open 12 = .ok (.aload_n 0, 1) := by decide +kernel
theorem dX20_open_13 : decode cX20_open 13 = .ok (.getfield 13, 3) := by decide +kernel
theorem dX20_open_16 : decode cX20_open 16 = .ok (.aload_n 0, 1) := by decide +kernel
theorem dX20_open_17 : decode cX20_open 17 = .ok (.getfield 34, 3) := by decide +kernel
theorem dX20_open_20 : decode cX20_open 20 = .ok (.new 11, 3) := by decide +kernel
theorem dX20_open_23 : decode cX20_open 23 = .ok (.dup, 1) := by decide +kernel
theorem dX20_open_24 : decode cX20_open 24 = .ok (.aload_n 0, 1) := by decide +kernel
theorem dX20_open_25 : decode cX20_open 25 = .ok (.getfield 23, 3) := by decide +kernel
theorem dX20_open_28 : decode cX20_open 28 = .ok (.invokespecial 37, 3) := by decide +kernel
theorem dX20_open_31 : decode cX20_open 31 = .ok (.aastore, 1) := by decide +kernel
theorem dX20_open_32 : decode cX20_open 32 = .ok (.aload_n 0, 1) := by decide +kernel
theorem dX20_open_33 : decode cX20_open 33 = .ok (.getfield 13, 3) := by decide +kernel
theorem dX20_open_36 : decode cX20_open 36 = .ok (.aload_n 0, 1) := by decide +kernel
theorem dX20_open_37 : decode cX20_open 37 = .ok (.getfield 34, 3) := by decide +kernel
theorem dX20_open_40 : decode cX20_open 40 = .ok (.aaload, 1) := by decide +kernel
theorem dX20_open_41 : decode cX20_open 41 = .ok (.astore_n 1, 1) := by decide +kernel
theorem dX20_open_42 : decode cX20_open 42 = .ok (.aload_n 1, 1) := by decide +kernel
theorem dX20_open_43 : decode cX20_open 43 = .ok (.iconst 0, 1) := by decide +kernel
theorem dX20_open_44 : decode cX20_open 44 = .ok (.putfield 40, 3) := by decide +kernel
theorem dX20_open_47 : decode cX20_open 47 = .ok (.aload_n 0, 1) := by decide +kernel
theorem dX20_open_48 : decode cX20_open 48 = .ok (.dup, 1) := by decide +kernel
theorem dX20_open_49 : decode cX20_open 49 = .ok (.getfield 34, 3) := by decide +kernel
theorem dX20_open_52 : decode cX20_open 52 = .ok (.iconst 1, 1) := by decide +kernel
theorem dX20_open_53 : decode cX20_open 53 = .ok (.iadd, 1) := by decide +kernel
theorem dX20_open_54 : decode cX20_open 54 = .ok (.putfield 34, 3) := by decide +kernel
theorem dX20_open_57 : decode cX20_open 57 = .ok (.aload_n 1, 1) := by decide +kernel
theorem dX20_open_58 : decode cX20_open 58 = .ok (.areturn, 1) := by decide +kernel
def j_X20_open_32 (x0 : Int) (M : MM) : Option (Int × MM) :=
  (gfr 20 3 x0 M).bind fun v1 =>
  (gfi 20 4 x0 M).bind fun v2 =>
  (lar 12 v1 v2 M).bind fun v3 =>
  (pfz 21 2 v3 0 M).bind fun M1 =>
  (gfi 20 4 x0 M1).bind fun v4 =>
  (pfi 20 4 x0 (v4 + 1) M1).bind fun M2 =>
  some (v3, M2)
def f_X20_open (x0 : Int) (M : MM) : Option (Int × MM) :=
  (gfr 20 3 x0 M).bind fun v1 =>
  (gfi 20 4 x0 M).bind fun v2 =>
  (lar 12 v1 v2 M).bind fun v3 =>
  if v3 = -1 then
    (gfr 20 3 x0 M).bind fun v4 =>
    (gfi 20 4 x0 M).bind fun v5 =>
    (nob 21 3 25 M).bind fun r1 =>
    (gfi 20 1 x0 r1.2).bind fun v6 =>
    nn r1.1 <| (f_X21_init r1.1 v6 r1.2).bind fun M1 =>
    (sar 12 v4 v5 r1.1 M1).bind fun M2 =>
    j_X20_open_32 x0 M2
  else
    j_X20_open_32 x0 M
theorem s_X20_open_32 {g : GG} {d : Nat} (hD : 3 ≤ d) {x0 : Int} {M : MM} {o : AV × MM} {P : (Int × MM) → Prop} (r0 : ∀ r : Int × MM, P r → o = ((1, r.1), r.2)) {z : Int × MM} (h : j_X20_open_32 x0 M = some z) (hz : P z) : Sem g d YX20_open 32 [(1, x0), (9, 0)] [] M o := by
  delta j_X20_open_32 at h
  refine S_aload_n (i := 0) dX20_open_32 rfl rfl ?_
  refine P_gfr FLX20_13 rfl dX20_open_33 h (fun v1 h => ?_)
  refine S_aload_n (i := 0) dX20_open_36 rfl rfl ?_
  refine P_gfi FLX20_34 rfl dX20_open_37 h (fun v2 h => ?_)
  refine P_lar (t := 12) ⟨by decide, by decide⟩ dX20_open_40 h (fun v3 h => ?_)
  refine S_astore_n (i := 1) dX20_open_41 rfl (Nat.le_of_ble_eq_true rfl) rfl rfl ?_
  change Sem g d YX20_open 42 [(1, x0), (1, v3)] [] M o
  refine S_aload_n (i := 1) dX20_open_42 rfl rfl ?_
  refine S_iconst dX20_open_43 rfl ?_
  refine P_pfz FLX20_40 FPX20_40 rfl dX20_open_44 h (fun M1 h => ?_)
  refine S_aload_n (i := 0) dX20_open_47 rfl rfl ?_
  refine S_dup dX20_open_48 (Nat.le_of_ble_eq_true rfl) ?_
  refine P_gfi FLX20_34 rfl dX20_open_49 h (fun v4 h => ?_)
  refine S_iconst dX20_open_52 rfl ?_
  refine S_iadd dX20_open_53 ?_
  refine P_pfi FLX20_34 FPX20_34 rfl dX20_open_54 h (fun M2 h => ?_)
  refine S_aload_n (i := 1) dX20_open_57 rfl rfl ?_
  obtain rfl := r0 _ (some_P (P := fun r => P r) h hz)
  exact S_areturn dX20_open_58 ⟨_, rfl, Or.inl ⟨_, rfl⟩⟩
theorem s_X20_open_0 {g : GG} {d : Nat} (hD : 3 ≤ d) {x0 : Int} {M : MM} {o : AV × MM} {P : (Int × MM) → Prop} (r0 : ∀ r : Int × MM, P r → o = ((1, r.1), r.2)) {z : Int × MM} (h : f_X20_open x0 M = some z) (hz : P z) : Sem g d YX20_open 0 [(1, x0), (9, 0)] [] M o := by
  delta f_X20_open at h
  refine S_aload_n (i := 0) dX20_open_0 rfl rfl ?_
  refine P_gfr FLX20_13 rfl dX20_open_1 h (fun v1 h => ?_)
  refine S_aload_n (i := 0) dX20_open_4 rfl rfl ?_
  refine P_gfi FLX20_34 rfl dX20_open_5 h (fun v2 h => ?_)
  refine P_lar (t := 12) ⟨by decide, by decide⟩ dX20_open_8 h (fun v3 h => ?_)
  refine P_ifnonnull (tgt := 32) dX20_open_9 rfl h (fun h => ?_) (fun h => ?_)
  · exact s_X20_open_32 hD r0 h hz
  · refine S_aload_n (i := 0) dX20_open_12 rfl rfl ?_
    refine P_gfr FLX20_13 rfl dX20_open_13 h (fun v4 h => ?_)
    refine S_aload_n (i := 0) dX20_open_16 rfl rfl ?_
    refine P_gfi FLX20_34 rfl dX20_open_17 h (fun v5 h => ?_)
    refine P_nob NLX20_11 rfl dX20_open_20 h (fun r1 h => ?_)
    refine S_dup dX20_open_23 (Nat.le_of_ble_eq_true rfl) ?_
    refine S_aload_n (i := 0) dX20_open_24 rfl rfl ?_
    refine P_gfi FLX20_23 rfl dX20_open_25 h (fun v6 h => ?_)
    refine P_invI' [(0, v6)] [(1, r1.1), (0, v5), (1, v4)] CIX21_init MLX20_37 dX20_open_28 rfl rfl rfl rfl (by omega) h (fun r h => F_X21_init (by omega) h) (fun M1 h => ?_)
    refine P_sar (t := 12) ⟨by decide, by decide⟩ dX20_open_31 h (fun M2 h => ?_)
    exact s_X20_open_32 hD r0 h hz
theorem F_X20_open {g : GG} {d : Nat} (hD : 3 ≤ d) {x0 : Int} {M : MM} {r : Int × MM} (h : f_X20_open x0 M = some r) : Sem g d YX20_open 0 (ini YX20_open [(1, x0)]) [] M ((1, r.1), r.2) := by
  change Sem g d YX20_open 0 [(1, x0), (9, 0)] [] M ((1, r.1), r.2)
  exact s_X20_open_0 hD (P := fun x => x = r) (fun q e => by rw [e]) h rfl
/-! PeerSearch$Table.clear()V -/
theorem dX20_clear_0 : decode cX20_clear 0 = .ok (.iconst 0, 1) := by decide +kernel
theorem dX20_clear_1 : decode cX20_clear 1 = .ok (.istore_n 1, 1) := by decide +kernel
theorem dX20_clear_2 : decode cX20_clear 2 = .ok (.iload_n 1, 1) := by decide +kernel
theorem dX20_clear_3 : decode cX20_clear 3 = .ok (.aload_n 0, 1) := by decide +kernel
theorem dX20_clear_4 : decode cX20_clear 4 = .ok (.getfield 34, 3) := by decide +kernel
theorem dX20_clear_7 : decode cX20_clear 7 = .ok (.if_icmp .ge 35, 3) := by decide +kernel
theorem dX20_clear_10 : decode cX20_clear 10 = .ok (.aload_n 0, 1) := by decide +kernel
theorem dX20_clear_11 : decode cX20_clear 11 = .ok (.aload_n 0, 1) := by decide +kernel
theorem dX20_clear_12 : decode cX20_clear 12 = .ok (.getfield 13, 3) := by decide +kernel
theorem dX20_clear_15 : decode cX20_clear 15 = .ok (.iload_n 1, 1) := by decide +kernel
theorem dX20_clear_16 : decode cX20_clear 16 = .ok (.aaload, 1) := by decide +kernel
theorem dX20_clear_17 : decode cX20_clear 17 = .ok (.getfield 59, 3) := by decide +kernel
theorem dX20_clear_20 : decode cX20_clear 20 = .ok (.invokevirtual 63, 3) := by decide +kernel
theorem dX20_clear_23 : decode cX20_clear 23 = .ok (.aload_n 0, 1) := by decide +kernel
theorem dX20_clear_24 : decode cX20_clear 24 = .ok (.aload_n 0, 1) := by decide +kernel
theorem dX20_clear_25 : decode cX20_clear 25 = .ok (.getfield 13, 3) := by decide +kernel
theorem dX20_clear_28 : decode cX20_clear 28 = .ok (.iload_n 1, 1) := by decide +kernel
theorem dX20_clear_29 : decode cX20_clear 29 = .ok (.aaload, 1) := by decide +kernel
theorem dX20_clear_30 : decode cX20_clear 30 = .ok (.getfield 67, 3) := by decide +kernel
theorem dX20_clear_33 : decode cX20_clear 33 = .ok (.invokevirtual 63, 3) := by decide +kernel
theorem dX20_clear_36 : decode cX20_clear 36 = .ok (.iinc 1 1, 3) := by decide +kernel
theorem dX20_clear_39 : decode cX20_clear 39 = .ok (.goto (-37), 3) := by decide +kernel
theorem dX20_clear_42 : decode cX20_clear 42 = .ok (.aload_n 0, 1) := by decide +kernel
theorem dX20_clear_43 : decode cX20_clear 43 = .ok (.iconst 0, 1) := by decide +kernel
theorem dX20_clear_44 : decode cX20_clear 44 = .ok (.putfield 34, 3) := by decide +kernel
theorem dX20_clear_47 : decode cX20_clear 47 = .ok (.aload_n 0, 1) := by decide +kernel
theorem dX20_clear_48 : decode cX20_clear 48 = .ok (.invokevirtual 70, 3) := by decide +kernel
theorem dX20_clear_51 : decode cX20_clear 51 = .ok (.astore_n 1, 1) := by decide +kernel
theorem dX20_clear_52 : decode cX20_clear 52 = .ok (.return_, 1) := by decide +kernel
def j_X20_clear_42 (x0 : Int) (M : MM) : Option (MM) :=
  (pfi 20 4 x0 0 M).bind fun M1 =>
  ck 20 x0 M1 <| (f_X20_open x0 M1).bind fun r1 =>
  some r1.2
def b_X20_clear_2 (x0 x1 : Int) (M : MM) : Option ((Int × MM) ⊕ (MM)) :=
  (gfi 20 4 x0 M).bind fun v1 =>
  if w32 x1 < w32 v1 then
    (gfr 20 3 x0 M).bind fun v2 =>
    (lar 12 v2 x1 M).bind fun v3 =>
    (gfr 21 0 v3 M).bind fun v4 =>
    ck 20 x0 M <| (f_X20_empty x0 v4 M).bind fun M1 =>
    (gfr 20 3 x0 M1).bind fun v5 =>
    (lar 12 v5 x1 M1).bind fun v6 =>
    (gfr 21 1 v6 M1).bind fun v7 =>
    ck 20 x0 M1 <| (f_X20_empty x0 v7 M1).bind fun M2 =>
    cnt (x1 + 1, M2)
  else
    xit (j_X20_clear_42 x0 M)
def l_X20_clear_2 (x0 x1 : Int) (M : MM) : Option (MM) := lpN (fun s : Int × MM => b_X20_clear_2 x0 s.1 s.2) FU (x1, M)
def f_X20_clear (x0 : Int) (M : MM) : Option (MM) :=
  l_X20_clear_2 x0 0 M
theorem s_X20_clear_42 {g : GG} {d : Nat} (hD : 4 ≤ d) {x0 : Int} {M : MM} {o : AV × MM} {P : (MM) → Prop} (r0 : ∀ r : MM, P r → o = ((9, 0), r)) {z : MM} (h : j_X20_clear_42 x0 M = some z) (hz : P z) : Sem g d YX20_clear 42 [(1, x0), (9, 0)] [] M o := by
  delta j_X20_clear_42 at h
  refine S_aload_n (i := 0) dX20_clear_42 rfl rfl ?_
  refine S_iconst dX20_clear_43 rfl ?_
  refine P_pfi FLX20_34 FPX20_34 rfl dX20_clear_44 h (fun M1 h => ?_)
  refine S_aload_n (i := 0) dX20_clear_47 rfl rfl ?_
  refine P_invVe 1 [] [] CVX20_open MLX20_70 dX20_clear_48 rfl rfl rfl rfl rfl (by omega) h (fun r h => F_X20_open (by omega) h) (fun r1 h => ?_)
  refine S_astore_n (i := 1) dX20_clear_51 rfl (Nat.le_of_ble_eq_true rfl) rfl rfl ?_
  change Sem g d YX20_clear 52 [(1, x0), (1, r1.1)] [] r1.2 o
  obtain rfl := r0 _ (some_P (P := fun r => P r) h hz)
  exact S_return dX20_clear_52 rfl
theorem s_X20_clear_2 {g : GG} {d : Nat} (hD : 4 ≤ d) {x0 x1 : Int} {M : MM} {o : AV × MM} {P : ((Int × MM) ⊕ (MM)) → Prop} (c0 : ∀ s : Int × MM, P (.inl s) → Sem g d YX20_clear 2 [(1, x0), (0, s.1)] [] s.2 o) (r0 : ∀ r : MM, P (.inr r) → o = ((9, 0), r)) {z : (Int × MM) ⊕ (MM)} (h : b_X20_clear_2 x0 x1 M = some z) (hz : P z) : Sem g d YX20_clear 2 [(1, x0), (0, x1)] [] M o := by
  delta b_X20_clear_2 at h
  refine S_iload_n (i := 1) dX20_clear_2 rfl rfl ?_
  refine S_aload_n (i := 0) dX20_clear_3 rfl rfl ?_
  refine P_gfi FLX20_34 rfl dX20_clear_4 h (fun v1 h => ?_)
  refine P_icmp_ge (tgt := 42) dX20_clear_7 rfl h (fun h => ?_) (fun h => ?_)
  · refine S_weak (ls' := [(1, x0), (9, 0)]) ⟨Or.inr rfl, ⟨Or.inl rfl, trivial⟩⟩ ?_
    obtain ⟨z0, h, hz⟩ := xit_some' (P := fun r => P r) h hz
    exact s_X20_clear_42 hD (P := fun r => P (.inr r)) r0 h hz
  · refine S_aload_n (i := 0) dX20_clear_10 rfl rfl ?_
    refine S_aload_n (i := 0) dX20_clear_11 rfl rfl ?_
    refine P_gfr FLX20_13 rfl dX20_clear_12 h (fun v2 h => ?_)
    refine S_iload_n (i := 1) dX20_clear_15 rfl rfl ?_
    refine P_lar (t := 12) ⟨by decide, by decide⟩ dX20_clear_16 h (fun v3 h => ?_)
    refine P_gfr FLX20_59 rfl dX20_clear_17 h (fun v4 h => ?_)
    refine P_invVm' [(1, v4)] [] CVX20_empty MLX20_63 dX20_clear_20 rfl rfl rfl rfl (by omega) h (fun r h => F_X20_empty (by omega) h) (fun M1 h => ?_)
    refine S_aload_n (i := 0) dX20_clear_23 rfl rfl ?_
    refine S_aload_n (i := 0) dX20_clear_24 rfl rfl ?_
    refine P_gfr FLX20_13 rfl dX20_clear_25 h (fun v5 h => ?_)
    refine S_iload_n (i := 1) dX20_clear_28 rfl rfl ?_
    refine P_lar (t := 12) ⟨by decide, by decide⟩ dX20_clear_29 h (fun v6 h => ?_)
    refine P_gfr FLX20_67 rfl dX20_clear_30 h (fun v7 h => ?_)
    refine P_invVm' [(1, v7)] [] CVX20_empty MLX20_63 dX20_clear_33 rfl rfl rfl rfl (by omega) h (fun r h => F_X20_empty (by omega) h) (fun M2 h => ?_)
    refine S_iinc dX20_clear_36 rfl rfl rfl ?_
    change Sem g d YX20_clear 39 [(1, x0), (0, x1 + 1)] [] M2 o
    refine S_goto (tgt := 2) dX20_clear_39 rfl ?_
    exact c0 (x1 + 1, M2) (some_P (P := fun r => P r) h hz)
theorem sl_X20_clear_2 {g : GG} {d : Nat} (hD : 4 ≤ d) {x0 x1 : Int} {M : MM} {o : AV × MM} {P : (MM) → Prop} (r0 : ∀ r : MM, P r → o = ((9, 0), r)) {z : MM} (h : l_X20_clear_2 x0 x1 M = some z) (hz : P z) : Sem g d YX20_clear 2 [(1, x0), (0, x1)] [] M o := by
  refine lp_sound (S := fun s : Int × MM => Sem g d YX20_clear 2 [(1, x0), (0, s.1)] [] s.2 o) (P := P) ?_ FU (x1, M) z h hz
  intro s x hx hP
  exact s_X20_clear_2 hD (P := Sum.elim (fun s : Int × MM => Sem g d YX20_clear 2 [(1, x0), (0, s.1)] [] s.2 o) P) (fun s h => h) (fun s h => r0 s h) hx hP
theorem s_X20_clear_0 {g : GG} {d : Nat} (hD : 4 ≤ d) {x0 : Int} {M : MM} {o : AV × MM} {P : (MM) → Prop} (r0 : ∀ r : MM, P r → o = ((9, 0), r)) {z : MM} (h : f_X20_clear x0 M = some z) (hz : P z) : Sem g d YX20_clear 0 [(1, x0), (9, 0)] [] M o := by
  delta f_X20_clear at h
  refine S_iconst dX20_clear_0 rfl ?_
  refine S_istore_n (i := 1) dX20_clear_1 rfl (Nat.le_of_ble_eq_true rfl) rfl rfl ?_
  change Sem g d YX20_clear 2 [(1, x0), (0, 0)] [] M o
  exact sl_X20_clear_2 hD r0 h hz
theorem F_X20_clear {g : GG} {d : Nat} (hD : 4 ≤ d) {x0 : Int} {M : MM} {r : MM} (h : f_X20_clear x0 M = some r) : Sem g d YX20_clear 0 (ini YX20_clear [(1, x0)]) [] M ((9, 0), r) := by
  change Sem g d YX20_clear 0 [(1, x0), (9, 0)] [] M ((9, 0), r)
  exact s_X20_clear_0 hD (P := fun x => x = r) (fun q e => by rw [e]) h rfl
/-! PeerSearch$Peer.end()V -/
theorem dX17_end_0 : decode cX17_end 0 = .ok (.aload_n 0, 1) := by decide +kernel
theorem dX17_end_1 : decode cX17_end 1 = .ok (.iconst 2, 1) := by decide +kernel
theorem dX17_end_2 : decode cX17_end 2 = .ok (.putfield 80, 3) := by decide +kernel
theorem dX17_end_5 : decode cX17_end 5 = .ok (.aload_n 0, 1) := by decide +kernel
theorem dX17_end_6 : decode cX17_end 6 = .ok (.iconst 0, 1) := by decide +kernel
theorem dX17_end_7 : decode cX17_end 7 = .ok (.putfield 101, 3) := by decide +kernel
theorem dX17_end_10 : decode cX17_end 10 = .ok (.aload_n 0, 1) := by decide +kernel
theorem dX17_end_11 : decode cX17_end 11 = .ok (.getfield 67, 3) := by decide +kernel
theorem dX17_end_14 : decode cX17_end 14 = .ok (.invokevirtual 104, 3) := by decide +kernel
theorem dX17_end_17 : decode cX17_end 17 = .ok (.aload_n 0, 1) := by decide +kernel
theorem dX17_end_18 : decode cX17_end 18 = .ok (.getfield 21, 3) := by decide +kernel
theorem dX17_end_21 : decode cX17_end 21 = .ok (.invokevirtual 107, 3) := by decide +kernel
theorem dX17_end_24 : decode cX17_end 24 = .ok (.return_, 1) := by decide +kernel
def f_X17_end (x0 : Int) (M : MM) : Option (MM) :=
  (pfi 17 3 x0 2 M).bind fun M1 =>
  (pfi 17 9 x0 0 M1).bind fun M2 =>
  (gfr 17 5 x0 M2).bind fun v1 =>
  ck 20 v1 M2 <| (f_X20_clear v1 M2).bind fun M3 =>
  (gfr 17 6 x0 M3).bind fun v2 =>
  ck 18 v2 M3 <| (f_X18_clear v2 M3).bind fun M4 =>
  some M4
theorem s_X17_end_0 {g : GG} {d : Nat} (hD : 5 ≤ d) {x0 : Int} {M : MM} {o : AV × MM} {P : (MM) → Prop} (r0 : ∀ r : MM, P r → o = ((9, 0), r)) {z : MM} (h : f_X17_end x0 M = some z) (hz : P z) : Sem g d YX17_end 0 [(1, x0)] [] M o := by
  delta f_X17_end at h
  refine S_aload_n (i := 0) dX17_end_0 rfl rfl ?_
  refine S_iconst dX17_end_1 rfl ?_
  refine P_pfi FLX17_80 FPX17_80 rfl dX17_end_2 h (fun M1 h => ?_)
  refine S_aload_n (i := 0) dX17_end_5 rfl rfl ?_
  refine S_iconst dX17_end_6 rfl ?_
  refine P_pfi FLX17_101 FPX17_101 rfl dX17_end_7 h (fun M2 h => ?_)
  refine S_aload_n (i := 0) dX17_end_10 rfl rfl ?_
  refine P_gfr FLX17_67 rfl dX17_end_11 h (fun v1 h => ?_)
  refine P_invVm' [] [] CVX20_clear MLX17_104 dX17_end_14 rfl rfl rfl rfl (by omega) h (fun r h => F_X20_clear (by omega) h) (fun M3 h => ?_)
  refine S_aload_n (i := 0) dX17_end_17 rfl rfl ?_
  refine P_gfr FLX17_21 rfl dX17_end_18 h (fun v2 h => ?_)
  refine P_invVm' [] [] CVX18_clear MLX17_107 dX17_end_21 rfl rfl rfl rfl (by omega) h (fun r h => F_X18_clear (by omega) h) (fun M4 h => ?_)
  obtain rfl := r0 _ (some_P (P := fun r => P r) h hz)
  exact S_return dX17_end_24 rfl
theorem F_X17_end {g : GG} {d : Nat} (hD : 5 ≤ d) {x0 : Int} {M : MM} {r : MM} (h : f_X17_end x0 M = some r) : Sem g d YX17_end 0 (ini YX17_end [(1, x0)]) [] M ((9, 0), r) := by
  change Sem g d YX17_end 0 [(1, x0)] [] M ((9, 0), r)
  exact s_X17_end_0 hD (P := fun x => x = r) (fun q e => by rw [e]) h rfl
/-! PeerSearch$Work.end(I)V -/
theorem dX11_end_0 : decode cX11_end 0 = .ok (.aload_n 0, 1) := by decide +kernel
theorem dX11_end_1 : decode cX11_end 1 = .ok (.iconst 0, 1) := by decide +kernel
theorem dX11_end_2 : decode cX11_end 2 = .ok (.putfield 79, 3) := by decide +kernel
theorem dX11_end_5 : decode cX11_end 5 = .ok (.aload_n 0, 1) := by decide +kernel
theorem dX11_end_6 : decode cX11_end 6 = .ok (.dup, 1) := by decide +kernel
theorem dX11_end_7 : decode cX11_end 7 = .ok (.getfield 83, 3) := by decide +kernel
theorem dX11_end_10 : decode cX11_end 10 = .ok (.iconst 1, 1) := by decide +kernel
theorem dX11_end_11 : decode cX11_end 11 = .ok (.iadd, 1) := by decide +kernel
theorem dX11_end_12 : decode cX11_end 12 = .ok (.putfield 83, 3) := by decide +kernel
theorem dX11_end_15 : decode cX11_end 15 = .ok (.aload_n 0, 1) := by decide +kernel
theorem dX11_end_16 : decode cX11_end 16 = .ok (.getfield 75, 3) := by decide +kernel
theorem dX11_end_19 : decode cX11_end 19 = .ok (.ifnull 11, 3) := by decide +kernel
theorem dX11_end_22 : decode cX11_end 22 = .ok (.aload_n 0, 1) := by decide +kernel
theorem dX11_end_23 : decode cX11_end 23 = .ok (.getfield 75, 3) := by decide +kernel
theorem dX11_end_26 : decode cX11_end 26 = .ok (.iload_n 1, 1) := by decide +kernel
theorem dX11_end_27 : decode cX11_end 27 = .ok (.putfield 95, 3) := by decide +kernel
theorem dX11_end_30 : decode cX11_end 30 = .ok (.return_, 1) := by decide +kernel
def j_X11_end_30 (M : MM) : Option (MM) :=
  some M
def f_X11_end (x0 x1 : Int) (M : MM) : Option (MM) :=
  (pfz 11 6 x0 0 M).bind fun M1 =>
  (gfi 11 5 x0 M1).bind fun v1 =>
  (pfi 11 5 x0 (v1 + 1) M1).bind fun M2 =>
  (gfr 11 4 x0 M2).bind fun v2 =>
  if v2 = -1 then
    j_X11_end_30 M2
  else
    (gfr 11 4 x0 M2).bind fun v3 =>
    (pfi 26 2 v3 x1 M2).bind fun M3 =>
    j_X11_end_30 M3
theorem s_X11_end_30 {g : GG} {d : Nat} (hD : 0 ≤ d) {M : MM} {o : AV × MM} {P : (MM) → Prop} (r0 : ∀ r : MM, P r → o = ((9, 0), r)) {z : MM} (h : j_X11_end_30 M = some z) (hz : P z) : Sem g d YX11_end 30 [(9, 0), (9, 0)] [] M o := by
  delta j_X11_end_30 at h
  obtain rfl := r0 _ (some_P (P := fun r => P r) h hz)
  exact S_return dX11_end_30 rfl
theorem s_X11_end_0 {g : GG} {d : Nat} (hD : 0 ≤ d) {x0 x1 : Int} {M : MM} {o : AV × MM} {P : (MM) → Prop} (r0 : ∀ r : MM, P r → o = ((9, 0), r)) {z : MM} (h : f_X11_end x0 x1 M = some z) (hz : P z) : Sem g d YX11_end 0 [(1, x0), (0, x1)] [] M o := by
  delta f_X11_end at h
  refine S_aload_n (i := 0) dX11_end_0 rfl rfl ?_
  refine S_iconst dX11_end_1 rfl ?_
  refine P_pfz FLX11_79 FPX11_79 rfl dX11_end_2 h (fun M1 h => ?_)
  refine S_aload_n (i := 0) dX11_end_5 rfl rfl ?_
  refine S_dup dX11_end_6 (Nat.le_of_ble_eq_true rfl) ?_
  refine P_gfi FLX11_83 rfl dX11_end_7 h (fun v1 h => ?_)
  refine S_iconst dX11_end_10 rfl ?_
  refine S_iadd dX11_end_11 ?_
  refine P_pfi FLX11_83 FPX11_83 rfl dX11_end_12 h (fun M2 h => ?_)
  refine S_aload_n (i := 0) dX11_end_15 rfl rfl ?_
  refine P_gfr FLX11_75 rfl dX11_end_16 h (fun v2 h => ?_)
  refine P_ifnull (tgt := 30) dX11_end_19 rfl h (fun h => ?_) (fun h => ?_)
  · refine S_weak (ls' := [(9, 0), (9, 0)]) ⟨Or.inl rfl, ⟨Or.inl rfl, trivial⟩⟩ ?_
    exact s_X11_end_30 hD r0 h hz
  · refine S_aload_n (i := 0) dX11_end_22 rfl rfl ?_
    refine P_gfr FLX11_75 rfl dX11_end_23 h (fun v3 h => ?_)
    refine S_iload_n (i := 1) dX11_end_26 rfl rfl ?_
    refine P_pfi FLX11_95 FPX11_95 rfl dX11_end_27 h (fun M3 h => ?_)
    refine S_weak (ls' := [(9, 0), (9, 0)]) ⟨Or.inl rfl, ⟨Or.inl rfl, trivial⟩⟩ ?_
    exact s_X11_end_30 hD r0 h hz
theorem F_X11_end {g : GG} {d : Nat} (hD : 0 ≤ d) {x0 x1 : Int} {M : MM} {r : MM} (h : f_X11_end x0 x1 M = some r) : Sem g d YX11_end 0 (ini YX11_end [(1, x0), (0, x1)]) [] M ((9, 0), r) := by
  change Sem g d YX11_end 0 [(1, x0), (0, x1)] [] M ((9, 0), r)
  exact s_X11_end_0 hD (P := fun x => x = r) (fun q e => by rw [e]) h rfl
/-! PeerSearch.drop(LPeerSearch$Peer;)V -/
theorem dX1_drop_0 : decode cX1_drop 0 = .ok (.iconst 0, 1) := by decide +kernel
theorem dX1_drop_1 : decode cX1_drop 1 = .ok (.istore_n 2, 1) := by decide +kernel
theorem dX1_drop_2 : decode cX1_drop 2 = .ok (.iload_n 2, 1) := by decide +kernel
theorem dX1_drop_3 : decode cX1_drop 3 = .ok (.bipush 12, 2) := by decide +kernel
theorem dX1_drop_5 : decode cX1_drop 5 = .ok (.if_icmp .ge 44, 3) := by decide +kernel
theorem dX1_drop_8 : decode cX1_drop 8 = .ok (.aload_n 0, 1) := by decide +kernel
theorem dX1_drop_9 : decode cX1_drop 9 = .ok (.getfield 21, 3) := by decide +kernel
theorem dX1_drop_12 : decode cX1_drop 12 = .ok (.iload_n 2, 1) := by decide +kernel
theorem dX1_drop_13 : decode cX1_drop 13 = .ok (.aaload, 1) := by decide +kernel
theorem dX1_drop_14 : decode cX1_drop 14 = .ok (.getfield 158, 3) := by decide +kernel
theorem dX1_drop_17 : decode cX1_drop 17 = .ok (.ifCond .eq 26, 3) := by decide +kernel
theorem dX1_drop_20 : decode cX1_drop 20 = .ok (.aload_n 0, 1) := by decide +kernel
theorem dX1_drop_21 : decode cX1_drop 21 = .ok (.getfield 21, 3) := by decide +kernel
theorem dX1_drop_24 : decode cX1_drop 24 = .ok (.iload_n 2, 1) := by decide +kernel
theorem dX1_drop_25 : decode cX1_drop 25 = .ok (.aaload, 1) := by decide +kernel
theorem dX1_drop_26 : decode cX1_drop 26 = .ok (.getfield 189, 3) := by decide +kernel
theorem dX1_drop_29 : decode cX1_drop 29 = .ok (.aload_n 1, 1) := by decide +kernel
theorem dX1_drop_30 : decode cX1_drop 30 = .ok (.if_acmp .ne 13, 3) := by decide +kernel
theorem dX1_drop_33 : decode cX1_drop 33 = .ok (.aload_n 0, 1) := by decide +kernel
theorem dX1_drop_34 : decode cX1_drop 34 = .ok (.getfield 21, 3) := by decide +kernel
theorem dX1_drop_37 : decode cX1_drop 37 = .ok (.iload_n 2, 1) := by decide +kernel
theorem dX1_drop_38 : decode cX1_drop 38 = .ok (.aaload, 1) := by decide +kernel
theorem dX1_drop_39 : decode cX1_drop 39 = .ok (.iconst 2, 1) := by decide +kernel
theorem dX1_drop_40 : decode cX1_drop 40 = .ok (.invokevirtual 193, 3) := by decide +kernel
theorem dX1_drop_43 : decode cX1_drop 43 = .ok (.iinc 2 1, 3) := by decide +kernel
theorem dX1_drop_46 : decode cX1_drop 46 = .ok (.goto (-44), 3) := by decide +kernel
theorem dX1_drop_49 : decode cX1_drop 49 = .ok (.aload_n 1, 1) := by decide +kernel
theorem dX1_drop_50 : decode cX1_drop 50 = .ok (.getfield 196, 3) := by decide +kernel
theorem dX1_drop_53 : decode cX1_drop 53 = .ok (.getfield 158, 3) := by decide +kernel
theorem dX1_drop_56 : decode cX1_drop 56 = .ok (.ifCond .eq 11, 3) := by decide +kernel
theorem dX1_drop_59 : decode cX1_drop 59 = .ok (.aload_n 1, 1) := by decide +kernel
theorem dX1_drop_60 : decode cX1_drop 60 = .ok (.getfield 196, 3) := by decide +kernel
theorem dX1_drop_63 : decode cX1_drop 63 = .ok (.iconst 2, 1) := by decide +kernel
theorem dX1_drop_64 : decode cX1_drop 64 = .ok (.invokevirtual 193, 3) := by decide +kernel
theorem dX1_drop_67 : decode cX1_drop 67 = .ok (.aload_n 1, 1) := by decide +kernel
theorem dX1_drop_68 : decode cX1_drop 68 = .ok (.invokevirtual 200, 3) := by decide +kernel
theorem dX1_drop_71 : decode cX1_drop 71 = .ok (.return_, 1) := by decide +kernel
def j_X1_drop_67 (x1 : Int) (M : MM) : Option (MM) :=
  ck 17 x1 M <| (f_X17_end x1 M).bind fun M1 =>
  some M1
def j_X1_drop_49 (x1 : Int) (M : MM) : Option (MM) :=
  (gfr 17 19 x1 M).bind fun v1 =>
  (gfi 11 6 v1 M).bind fun v2 =>
  if w32 v2 = 0 then
    j_X1_drop_67 x1 M
  else
    (gfr 17 19 x1 M).bind fun v3 =>
    ck 11 v3 M <| (f_X11_end v3 2 M).bind fun M1 =>
    j_X1_drop_67 x1 M1
def j_X1_drop_43 (x0 x1 x2 : Int) (M : MM) : Option ((Int × MM) ⊕ (MM)) :=
  cnt (x2 + 1, M)
def b_X1_drop_2 (x0 x1 x2 : Int) (M : MM) : Option ((Int × MM) ⊕ (MM)) :=
  if w32 x2 < w32 12 then
    (gfr 1 6 x0 M).bind fun v1 =>
    (lar 3 v1 x2 M).bind fun v2 =>
    (gfi 11 6 v2 M).bind fun v3 =>
    if w32 v3 = 0 then
      j_X1_drop_43 x0 x1 x2 M
    else
      (gfr 1 6 x0 M).bind fun v4 =>
      (lar 3 v4 x2 M).bind fun v5 =>
      (gfr 11 2 v5 M).bind fun v6 =>
      aeq v6 x1 (
        (gfr 1 6 x0 M).bind fun v7 =>
        (lar 3 v7 x2 M).bind fun v8 =>
        ck 11 v8 M <| (f_X11_end v8 2 M).bind fun M1 =>
        j_X1_drop_43 x0 x1 x2 M1
        ) (
        j_X1_drop_43 x0 x1 x2 M
        )
  else
    xit (j_X1_drop_49 x1 M)
def l_X1_drop_2 (x0 x1 x2 : Int) (M : MM) : Option (MM) := lpN (fun s : Int × MM => b_X1_drop_2 x0 x1 s.1 s.2) FU (x2, M)
def f_X1_drop (x0 x1 : Int) (M : MM) : Option (MM) :=
  l_X1_drop_2 x0 x1 0 M
theorem s_X1_drop_67 {g : GG} {d : Nat} (hD : 6 ≤ d) {x1 : Int} {M : MM} {o : AV × MM} {P : (MM) → Prop} (r0 : ∀ r : MM, P r → o = ((9, 0), r)) {z : MM} (h : j_X1_drop_67 x1 M = some z) (hz : P z) : Sem g d YX1_drop 67 [(9, 0), (1, x1), (9, 0)] [] M o := by
  delta j_X1_drop_67 at h
  refine S_aload_n (i := 1) dX1_drop_67 rfl rfl ?_
  refine P_invVm' [] [] CVX17_end MLX1_200 dX1_drop_68 rfl rfl rfl rfl (by omega) h (fun r h => F_X17_end (by omega) h) (fun M1 h => ?_)
  obtain rfl := r0 _ (some_P (P := fun r => P r) h hz)
  exact S_return dX1_drop_71 rfl
theorem s_X1_drop_49 {g : GG} {d : Nat} (hD : 6 ≤ d) {x1 : Int} {M : MM} {o : AV × MM} {P : (MM) → Prop} (r0 : ∀ r : MM, P r → o = ((9, 0), r)) {z : MM} (h : j_X1_drop_49 x1 M = some z) (hz : P z) : Sem g d YX1_drop 49 [(9, 0), (1, x1), (9, 0)] [] M o := by
  delta j_X1_drop_49 at h
  refine S_aload_n (i := 1) dX1_drop_49 rfl rfl ?_
  refine P_gfr FLX1_196 rfl dX1_drop_50 h (fun v1 h => ?_)
  refine P_gfi FLX1_158 rfl dX1_drop_53 h (fun v2 h => ?_)
  refine P_if_eq (tgt := 67) dX1_drop_56 rfl h (fun h => ?_) (fun h => ?_)
  · exact s_X1_drop_67 hD r0 h hz
  · refine S_aload_n (i := 1) dX1_drop_59 rfl rfl ?_
    refine P_gfr FLX1_196 rfl dX1_drop_60 h (fun v3 h => ?_)
    refine S_iconst dX1_drop_63 rfl ?_
    refine P_invVm' [(0, 2)] [] CVX11_end MLX1_193 dX1_drop_64 rfl rfl rfl rfl (by omega) h (fun r h => F_X11_end (by omega) h) (fun M1 h => ?_)
    exact s_X1_drop_67 hD r0 h hz
theorem s_X1_drop_43 {g : GG} {d : Nat} (hD : 6 ≤ d) {x0 x1 x2 : Int} {M : MM} {o : AV × MM} {P : ((Int × MM) ⊕ (MM)) → Prop} (c0 : ∀ s : Int × MM, P (.inl s) → Sem g d YX1_drop 2 [(1, x0), (1, x1), (0, s.1)] [] s.2 o) (r0 : ∀ r : MM, P (.inr r) → o = ((9, 0), r)) {z : (Int × MM) ⊕ (MM)} (h : j_X1_drop_43 x0 x1 x2 M = some z) (hz : P z) : Sem g d YX1_drop 43 [(1, x0), (1, x1), (0, x2)] [] M o := by
  delta j_X1_drop_43 at h
  refine S_iinc dX1_drop_43 rfl rfl rfl ?_
  change Sem g d YX1_drop 46 [(1, x0), (1, x1), (0, x2 + 1)] [] M o
  refine S_goto (tgt := 2) dX1_drop_46 rfl ?_
  exact c0 (x2 + 1, M) (some_P (P := fun r => P r) h hz)
theorem s_X1_drop_2 {g : GG} {d : Nat} (hD : 6 ≤ d) {x0 x1 x2 : Int} {M : MM} {o : AV × MM} {P : ((Int × MM) ⊕ (MM)) → Prop} (c0 : ∀ s : Int × MM, P (.inl s) → Sem g d YX1_drop 2 [(1, x0), (1, x1), (0, s.1)] [] s.2 o) (r0 : ∀ r : MM, P (.inr r) → o = ((9, 0), r)) {z : (Int × MM) ⊕ (MM)} (h : b_X1_drop_2 x0 x1 x2 M = some z) (hz : P z) : Sem g d YX1_drop 2 [(1, x0), (1, x1), (0, x2)] [] M o := by
  delta b_X1_drop_2 at h
  refine S_iload_n (i := 2) dX1_drop_2 rfl rfl ?_
  refine S_bipush (z := 12) dX1_drop_3 rfl ?_
  refine P_icmp_ge (tgt := 49) dX1_drop_5 rfl h (fun h => ?_) (fun h => ?_)
  · refine S_weak (ls' := [(9, 0), (1, x1), (9, 0)]) ⟨Or.inl rfl, ⟨Or.inr rfl, ⟨Or.inl rfl, trivial⟩⟩⟩ ?_
    obtain ⟨z0, h, hz⟩ := xit_some' (P := fun r => P r) h hz
    exact s_X1_drop_49 hD (P := fun r => P (.inr r)) r0 h hz
  · refine S_aload_n (i := 0) dX1_drop_8 rfl rfl ?_
    refine P_gfr FLX1_21 rfl dX1_drop_9 h (fun v1 h => ?_)
    refine S_iload_n (i := 2) dX1_drop_12 rfl rfl ?_
    refine P_lar (t := 3) ⟨by decide, by decide⟩ dX1_drop_13 h (fun v2 h => ?_)
    refine P_gfi FLX1_158 rfl dX1_drop_14 h (fun v3 h => ?_)
    refine P_if_eq (tgt := 43) dX1_drop_17 rfl h (fun h => ?_) (fun h => ?_)
    · exact s_X1_drop_43 hD c0 r0 h hz
    · refine S_aload_n (i := 0) dX1_drop_20 rfl rfl ?_
      refine P_gfr FLX1_21 rfl dX1_drop_21 h (fun v4 h => ?_)
      refine S_iload_n (i := 2) dX1_drop_24 rfl rfl ?_
      refine P_lar (t := 3) ⟨by decide, by decide⟩ dX1_drop_25 h (fun v5 h => ?_)
      refine P_gfr FLX1_189 rfl dX1_drop_26 h (fun v6 h => ?_)
      refine S_aload_n (i := 1) dX1_drop_29 rfl rfl ?_
      refine P_acmp_ne (tgt := 43) dX1_drop_30 rfl h (fun h => ?_) (fun h => ?_)
      · exact s_X1_drop_43 hD c0 r0 h hz
      · refine S_aload_n (i := 0) dX1_drop_33 rfl rfl ?_
        refine P_gfr FLX1_21 rfl dX1_drop_34 h (fun v7 h => ?_)
        refine S_iload_n (i := 2) dX1_drop_37 rfl rfl ?_
        refine P_lar (t := 3) ⟨by decide, by decide⟩ dX1_drop_38 h (fun v8 h => ?_)
        refine S_iconst dX1_drop_39 rfl ?_
        refine P_invVm' [(0, 2)] [] CVX11_end MLX1_193 dX1_drop_40 rfl rfl rfl rfl (by omega) h (fun r h => F_X11_end (by omega) h) (fun M1 h => ?_)
        exact s_X1_drop_43 hD c0 r0 h hz
theorem sl_X1_drop_2 {g : GG} {d : Nat} (hD : 6 ≤ d) {x0 x1 x2 : Int} {M : MM} {o : AV × MM} {P : (MM) → Prop} (r0 : ∀ r : MM, P r → o = ((9, 0), r)) {z : MM} (h : l_X1_drop_2 x0 x1 x2 M = some z) (hz : P z) : Sem g d YX1_drop 2 [(1, x0), (1, x1), (0, x2)] [] M o := by
  refine lp_sound (S := fun s : Int × MM => Sem g d YX1_drop 2 [(1, x0), (1, x1), (0, s.1)] [] s.2 o) (P := P) ?_ FU (x2, M) z h hz
  intro s x hx hP
  exact s_X1_drop_2 hD (P := Sum.elim (fun s : Int × MM => Sem g d YX1_drop 2 [(1, x0), (1, x1), (0, s.1)] [] s.2 o) P) (fun s h => h) (fun s h => r0 s h) hx hP
theorem s_X1_drop_0 {g : GG} {d : Nat} (hD : 6 ≤ d) {x0 x1 : Int} {M : MM} {o : AV × MM} {P : (MM) → Prop} (r0 : ∀ r : MM, P r → o = ((9, 0), r)) {z : MM} (h : f_X1_drop x0 x1 M = some z) (hz : P z) : Sem g d YX1_drop 0 [(1, x0), (1, x1), (9, 0)] [] M o := by
  delta f_X1_drop at h
  refine S_iconst dX1_drop_0 rfl ?_
  refine S_istore_n (i := 2) dX1_drop_1 rfl (Nat.le_of_ble_eq_true rfl) rfl rfl ?_
  change Sem g d YX1_drop 2 [(1, x0), (1, x1), (0, 0)] [] M o
  exact sl_X1_drop_2 hD r0 h hz
theorem F_X1_drop {g : GG} {d : Nat} (hD : 6 ≤ d) {x0 x1 : Int} {M : MM} {r : MM} (h : f_X1_drop x0 x1 M = some r) : Sem g d YX1_drop 0 (ini YX1_drop [(1, x0), (1, x1)]) [] M ((9, 0), r) := by
  change Sem g d YX1_drop 0 [(1, x0), (1, x1), (9, 0)] [] M ((9, 0), r)
  exact s_X1_drop_0 hD (P := fun x => x = r) (fun q e => by rw [e]) h rfl
/-! PeerSearch.isLive(I)Z -/
theorem dX1_isLive_0 : decode cX1_isLive 0 = .ok (.aload_n 0, 1) := by decide +kernel
theorem dX1_isLive_1 : decode cX1_isLive 1 = .ok (.iload_n 1, 1) := by decide +kernel
theorem dX1_isLive_2 : decode cX1_isLive 2 = .ok (.invokevirtual 113, 3) := by decide +kernel
theorem dX1_isLive_5 : decode cX1_isLive 5 = .ok (.ifCond .eq 23, 3) := by decide +kernel
theorem dX1_isLive_8 : decode cX1_isLive 8 = .ok (.aload_n 0, 1) := by decide +kernel
theorem dX1_isLive_9 : decode cX1_isLive 9 = .ok (.getfield 70, 3) := by decide +kernel
theorem dX1_isLive_12 : decode cX1_isLive 12 = .ok (.getfield 114, 3) := by decide +kernel
theorem dX1_isLive_15 : decode cX1_isLive 15 = .ok (.iload_n 1, 1) := by decide +kernel
theorem dX1_isLive_16 : decode cX1_isLive 16 = .ok (.aaload, 1) := by decide +kernel
theorem dX1_isLive_17 : decode cX1_isLive 17 = .ok (.getfield 118, 3) := by decide +kernel
theorem dX1_isLive_20 : decode cX1_isLive 20 = .ok (.iconst 1, 1) := by decide +kernel
theorem dX1_isLive_21 : decode cX1_isLive 21 = .ok (.if_icmp .ne 7, 3) := by decide +kernel
theorem dX1_isLive_24 : decode cX1_isLive 24 = .ok (.iconst 1, 1) := by decide +kernel
theorem dX1_isLive_25 : decode cX1_isLive 25 = .ok (.goto 4, 3) := by decide +kernel
theorem dX1_isLive_28 : decode cX1_isLive 28 = .ok (.iconst 0, 1) := by decide +kernel
theorem dX1_isLive_29 : decode cX1_isLive 29 = .ok (.ireturn, 1) := by decide +kernel
def j_X1_isLive_29 (y0 : Int) (M : MM) : Option (Int) :=
  bz y0 (some y0)
def j_X1_isLive_28 (M : MM) : Option (Int) :=
  j_X1_isLive_29 0 M
def f_X1_isLive (x0 x1 : Int) (M : MM) : Option (Int) :=
  ck 1 x0 M <| (f_X1_has x0 x1 M).bind fun v1 =>
  if w32 v1 = 0 then
    j_X1_isLive_28 M
  else
    (gfr 1 0 x0 M).bind fun v2 =>
    (gfr 6 5 v2 M).bind fun v3 =>
    (lar 7 v3 x1 M).bind fun v4 =>
    (gfi 17 3 v4 M).bind fun v5 =>
    if w32 v5 = w32 1 then
      j_X1_isLive_29 1 M
    else
      j_X1_isLive_28 M
theorem s_X1_isLive_29 {g : GG} {d : Nat} (hD : 2 ≤ d) {y0 : Int} {M : MM} {o : AV × MM} {P : (Int) → Prop} (r0 : ∀ r : Int, P r → o = ((0, r), M)) {z : Int} (h : j_X1_isLive_29 y0 M = some z) (hz : P z) : Sem g d YX1_isLive 29 [(9, 0), (9, 0)] [(0, y0)] M o := by
  delta j_X1_isLive_29 at h
  obtain ⟨hb, h⟩ := bz_some h
  obtain rfl := r0 _ (some_P (P := fun r => P r) h hz)
  exact P_ret dX1_isLive_29 rfl (Or.inr ⟨rfl, hb⟩)
theorem s_X1_isLive_28 {g : GG} {d : Nat} (hD : 2 ≤ d) {M : MM} {o : AV × MM} {P : (Int) → Prop} (r0 : ∀ r : Int, P r → o = ((0, r), M)) {z : Int} (h : j_X1_isLive_28 M = some z) (hz : P z) : Sem g d YX1_isLive 28 [(9, 0), (9, 0)] [] M o := by
  delta j_X1_isLive_28 at h
  refine S_iconst dX1_isLive_28 rfl ?_
  exact s_X1_isLive_29 hD r0 h hz
theorem s_X1_isLive_0 {g : GG} {d : Nat} (hD : 2 ≤ d) {x0 x1 : Int} {M : MM} {o : AV × MM} {P : (Int) → Prop} (r0 : ∀ r : Int, P r → o = ((0, r), M)) {z : Int} (h : f_X1_isLive x0 x1 M = some z) (hz : P z) : Sem g d YX1_isLive 0 [(1, x0), (0, x1)] [] M o := by
  delta f_X1_isLive at h
  refine S_aload_n (i := 0) dX1_isLive_0 rfl rfl ?_
  refine S_iload_n (i := 1) dX1_isLive_1 rfl rfl ?_
  refine P_invVp 0 [(0, x1)] [] CVX1_has MLX1_113 dX1_isLive_2 rfl rfl rfl rfl rfl (by omega) h (fun r h => F_X1_has (by omega) h) (fun v1 h => ?_)
  refine P_if_eq (tgt := 28) dX1_isLive_5 rfl h (fun h => ?_) (fun h => ?_)
  · refine S_weak (ls' := [(9, 0), (9, 0)]) ⟨Or.inl rfl, ⟨Or.inl rfl, trivial⟩⟩ ?_
    exact s_X1_isLive_28 hD r0 h hz
  · refine S_aload_n (i := 0) dX1_isLive_8 rfl rfl ?_
    refine P_gfr FLX1_70 rfl dX1_isLive_9 h (fun v2 h => ?_)
    refine P_gfr FLX1_114 rfl dX1_isLive_12 h (fun v3 h => ?_)
    refine S_iload_n (i := 1) dX1_isLive_15 rfl rfl ?_
    refine P_lar (t := 7) ⟨by decide, by decide⟩ dX1_isLive_16 h (fun v4 h => ?_)
    refine P_gfi FLX1_118 rfl dX1_isLive_17 h (fun v5 h => ?_)
    refine S_iconst dX1_isLive_20 rfl ?_
    refine P_icmp_ne (tgt := 28) dX1_isLive_21 rfl h (fun h => ?_) (fun h => ?_)
    · refine S_weak (ls' := [(9, 0), (9, 0)]) ⟨Or.inl rfl, ⟨Or.inl rfl, trivial⟩⟩ ?_
      exact s_X1_isLive_28 hD r0 h hz
    · refine S_iconst dX1_isLive_24 rfl ?_
      refine S_goto (tgt := 29) dX1_isLive_25 rfl ?_
      refine S_weak (ls' := [(9, 0), (9, 0)]) ⟨Or.inl rfl, ⟨Or.inl rfl, trivial⟩⟩ ?_
      exact s_X1_isLive_29 hD r0 h hz
theorem F_X1_isLive {g : GG} {d : Nat} (hD : 2 ≤ d) {x0 x1 : Int} {M : MM} {r : Int} (h : f_X1_isLive x0 x1 M = some r) : Sem g d YX1_isLive 0 (ini YX1_isLive [(1, x0), (0, x1)]) [] M ((0, r), M) := by
  change Sem g d YX1_isLive 0 [(1, x0), (0, x1)] [] M ((0, r), M)
  exact s_X1_isLive_0 hD (P := fun x => x = r) (fun q e => by rw [e]) h rfl
/-! PeerSearch.crash(I)Z -/
theorem dX1_crash_0 : decode cX1_crash 0 = .ok (.aload_n 0, 1) := by decide +kernel
theorem dX1_crash_1 : decode cX1_crash 1 = .ok (.iload_n 1, 1) := by decide +kernel
theorem dX1_crash_2 : decode cX1_crash 2 = .ok (.invokevirtual 149, 3) := by decide +kernel
theorem dX1_crash_5 : decode cX1_crash 5 = .ok (.ifCond .ne 5, 3) := by decide +kernel
theorem dX1_crash_8 : decode cX1_crash 8 = .ok (.iconst 0, 1) := by decide +kernel
theorem dX1_crash_9 : decode cX1_crash 9 = .ok (.ireturn, 1) := by decide +kernel
theorem dX1_crash_10 : decode cX1_crash 10 = .ok (.aload_n 0, 1) := by decide +kernel
theorem dX1_crash_11 : decode cX1_crash 11 = .ok (.aload_n 0, 1) := by decide +kernel
theorem dX1_crash_12 : decode cX1_crash 12 = .ok (.getfield 70, 3) := by decide +kernel
theorem dX1_crash_15 : decode cX1_crash 15 = .ok (.getfield 114, 3) := by decide +kernel
theorem dX1_crash_18 : decode cX1_crash 18 = .ok (.iload_n 1, 1) := by decide +kernel
theorem dX1_crash_19 : decode cX1_crash 19 = .ok (.aaload, 1) := by decide +kernel
theorem dX1_crash_20 : decode cX1_crash 20 = .ok (.invokevirtual 202, 3) := by decide +kernel
theorem dX1_crash_23 : decode cX1_crash 23 = .ok (.iconst 1, 1) := by decide +kernel
theorem dX1_crash_24 : decode cX1_crash 24 = .ok (.ireturn, 1) := by decide +kernel
def f_X1_crash (x0 x1 : Int) (M : MM) : Option (Int × MM) :=
  ck 1 x0 M <| (f_X1_isLive x0 x1 M).bind fun v1 =>
  if w32 v1 = 0 then
    some (0, M)
  else
    (gfr 1 0 x0 M).bind fun v2 =>
    (gfr 6 5 v2 M).bind fun v3 =>
    (lar 7 v3 x1 M).bind fun v4 =>
    ck 1 x0 M <| (f_X1_drop x0 v4 M).bind fun M1 =>
    some (1, M1)
theorem s_X1_crash_0 {g : GG} {d : Nat} (hD : 7 ≤ d) {x0 x1 : Int} {M : MM} {o : AV × MM} {P : (Int × MM) → Prop} (r0 : ∀ r : Int × MM, P r → o = ((0, r.1), r.2)) {z : Int × MM} (h : f_X1_crash x0 x1 M = some z) (hz : P z) : Sem g d YX1_crash 0 [(1, x0), (0, x1)] [] M o := by
  delta f_X1_crash at h
  refine S_aload_n (i := 0) dX1_crash_0 rfl rfl ?_
  refine S_iload_n (i := 1) dX1_crash_1 rfl rfl ?_
  refine P_invVp 0 [(0, x1)] [] CVX1_isLive MLX1_149 dX1_crash_2 rfl rfl rfl rfl rfl (by omega) h (fun r h => F_X1_isLive (by omega) h) (fun v1 h => ?_)
  refine P_if_ne (tgt := 10) dX1_crash_5 rfl h (fun h => ?_) (fun h => ?_)
  · refine S_aload_n (i := 0) dX1_crash_10 rfl rfl ?_
    refine S_aload_n (i := 0) dX1_crash_11 rfl rfl ?_
    refine P_gfr FLX1_70 rfl dX1_crash_12 h (fun v2 h => ?_)
    refine P_gfr FLX1_114 rfl dX1_crash_15 h (fun v3 h => ?_)
    refine S_iload_n (i := 1) dX1_crash_18 rfl rfl ?_
    refine P_lar (t := 7) ⟨by decide, by decide⟩ dX1_crash_19 h (fun v4 h => ?_)
    refine P_invVm' [(1, v4)] [] CVX1_drop MLX1_202 dX1_crash_20 rfl rfl rfl rfl (by omega) h (fun r h => F_X1_drop (by omega) h) (fun M1 h => ?_)
    refine S_iconst dX1_crash_23 rfl ?_
    obtain rfl := r0 _ (some_P (P := fun r => P r) h hz)
    exact P_ret dX1_crash_24 rfl (Or.inr ⟨rfl, Or.inr rfl⟩)
  · refine S_iconst dX1_crash_8 rfl ?_
    obtain rfl := r0 _ (some_P (P := fun r => P r) h hz)
    exact P_ret dX1_crash_9 rfl (Or.inr ⟨rfl, Or.inl rfl⟩)
theorem F_X1_crash {g : GG} {d : Nat} (hD : 7 ≤ d) {x0 x1 : Int} {M : MM} {r : Int × MM} (h : f_X1_crash x0 x1 M = some r) : Sem g d YX1_crash 0 (ini YX1_crash [(1, x0), (0, x1)]) [] M ((0, r.1), r.2) := by
  change Sem g d YX1_crash 0 [(1, x0), (0, x1)] [] M ((0, r.1), r.2)
  exact s_X1_crash_0 hD (P := fun x => x = r) (fun q e => by rw [e]) h rfl
/-! PeerSearch.take()I -/
theorem dX1_take_0 : decode cX1_take 0 = .ok (.aload_n 0, 1) := by decide +kernel
theorem dX1_take_1 : decode cX1_take 1 = .ok (.getfield 91, 3) := by decide +kernel
theorem dX1_take_4 : decode cX1_take 4 = .ok (.istore_n 1, 1) := by decide +kernel
theorem dX1_take_5 : decode cX1_take 5 = .ok (.aload_n 0, 1) := by decide +kernel
theorem dX1_take_6 : decode cX1_take 6 = .ok (.iconst 0, 1) := by decide +kernel
theorem dX1_take_7 : decode cX1_take 7 = .ok (.putfield 91, 3) := by decide +kernel
theorem dX1_take_10 : decode cX1_take 10 = .ok (.iload_n 1, 1) := by decide +kernel
theorem dX1_take_11 : decode cX1_take 11 = .ok (.ireturn, 1) := by decide +kernel
def f_X1_take (x0 : Int) (M : MM) : Option (Int × MM) :=
  (gfi 1 5 x0 M).bind fun v1 =>
  (pfi 1 5 x0 0 M).bind fun M1 =>
  some (v1, M1)
theorem s_X1_take_0 {g : GG} {d : Nat} (hD : 0 ≤ d) {x0 : Int} {M : MM} {o : AV × MM} {P : (Int × MM) → Prop} (r0 : ∀ r : Int × MM, P r → o = ((0, r.1), r.2)) {z : Int × MM} (h : f_X1_take x0 M = some z) (hz : P z) : Sem g d YX1_take 0 [(1, x0), (9, 0)] [] M o := by
  delta f_X1_take at h
  refine S_aload_n (i := 0) dX1_take_0 rfl rfl ?_
  refine P_gfi FLX1_91 rfl dX1_take_1 h (fun v1 h => ?_)
  refine S_istore_n (i := 1) dX1_take_4 rfl (Nat.le_of_ble_eq_true rfl) rfl rfl ?_
  change Sem g d YX1_take 5 [(1, x0), (0, v1)] [] M o
  refine S_aload_n (i := 0) dX1_take_5 rfl rfl ?_
  refine S_iconst dX1_take_6 rfl ?_
  refine P_pfi FLX1_91 FPX1_91 rfl dX1_take_7 h (fun M1 h => ?_)
  refine S_iload_n (i := 1) dX1_take_10 rfl rfl ?_
  obtain rfl := r0 _ (some_P (P := fun r => P r) h hz)
  exact P_ret dX1_take_11 rfl (Or.inl rfl)
theorem F_X1_take {g : GG} {d : Nat} (hD : 0 ≤ d) {x0 : Int} {M : MM} {r : Int × MM} (h : f_X1_take x0 M = some r) : Sem g d YX1_take 0 (ini YX1_take [(1, x0)]) [] M ((0, r.1), r.2) := by
  change Sem g d YX1_take 0 [(1, x0), (9, 0)] [] M ((0, r.1), r.2)
  exact s_X1_take_0 hD (P := fun x => x = r) (fun q e => by rw [e]) h rfl
/-! PeerSearch$Cutter.isSame(I)Z -/
theorem dX2_isSame_0 : decode cX2_isSame 0 = .ok (.aload_n 0, 1) := by decide +kernel
theorem dX2_isSame_1 : decode cX2_isSame 1 = .ok (.getfield 15, 3) := by decide +kernel
theorem dX2_isSame_4 : decode cX2_isSame 4 = .ok (.iload_n 1, 1) := by decide +kernel
theorem dX2_isSame_5 : decode cX2_isSame 5 = .ok (.iaload, 1) := by decide +kernel
theorem dX2_isSame_6 : decode cX2_isSame 6 = .ok (.aload_n 0, 1) := by decide +kernel
theorem dX2_isSame_7 : decode cX2_isSame 7 = .ok (.getfield 15, 3) := by decide +kernel
theorem dX2_isSame_10 : decode cX2_isSame 10 = .ok (.aload_n 0, 1) := by decide +kernel
theorem dX2_isSame_11 : decode cX2_isSame 11 = .ok (.getfield 22, 3) := by decide +kernel
theorem dX2_isSame_14 : decode cX2_isSame 14 = .ok (.iaload, 1) := by decide +kernel
theorem dX2_isSame_15 : decode cX2_isSame 15 = .ok (.if_icmp .eq 5, 3) := by decide +kernel
theorem dX2_isSame_18 : decode cX2_isSame 18 = .ok (.iconst 0, 1) := by decide +kernel
theorem dX2_isSame_19 : decode cX2_isSame 19 = .ok (.ireturn, 1) := by decide +kernel
theorem dX2_isSame_20 : decode cX2_isSame 20 = .ok (.iconst 0, 1) := by decide +kernel
theorem dX2_isSame_21 : decode cX2_isSame 21 = .ok (.istore_n 2, 1) := by decide +kernel
theorem dX2_isSame_22 : decode cX2_isSame 22 = .ok (.iload_n 2, 1) := by decide +kernel
theorem dX2_isSame_23 : decode cX2_isSame 23 = .ok (.aload_n 0, 1) := by decide +kernel
theorem dX2_isSame_24 : decode cX2_isSame 24 = .ok (.getfield 15, 3) := by decide +kernel
theorem dX2_isSame_27 : decode cX2_isSame 27 = .ok (.iload_n 1, 1) := by decide +kernel
theorem dX2_isSame_28 : decode cX2_isSame 28 = .ok (.iaload, 1) := by decide +kernel
theorem dX2_isSame_29 : decode cX2_isSame 29 = .ok (.if_icmp .ge 39, 3) := by decide +kernel
theorem dX2_isSame_32 : decode cX2_isSame 32 = .ok (.aload_n 0, 1) := by decide +kernel
theorem dX2_isSame_33 : decode cX2_isSame 33 = .ok (.getfield 9, 3) := by decide +kernel
theorem dX2_isSame_36 : decode cX2_isSame 36 = .ok (.bipush 12, 2) := by decide +kernel
theorem dX2_isSame_38 : decode cX2_isSame 38 = .ok (.iload_n 1, 1) := by decide +kernel
theorem dX2_isSame_39 : decode cX2_isSame 39 = .ok (.imul, 1) := by decide +kernel
theorem dX2_isSame_40 : decode cX2_isSame 40 = .ok (.iload_n 2, 1) := by decide +kernel
theorem dX2_isSame_41 : decode cX2_isSame 41 = .ok (.iadd, 1) := by decide +kernel
theorem dX2_isSame_42 : decode cX2_isSame 42 = .ok (.baload, 1) := by decide +kernel
theorem dX2_isSame_43 : decode cX2_isSame 43 = .ok (.aload_n 0, 1) := by decide +kernel
theorem dX2_isSame_44 : decode cX2_isSame 44 = .ok (.getfield 9, 3) := by decide +kernel
theorem dX2_isSame_47 : decode cX2_isSame 47 = .ok (.bipush 12, 2) := by decide +kernel
theorem dX2_isSame_49 : decode cX2_isSame 49 = .ok (.aload_n 0, 1) := by decide +kernel
theorem dX2_isSame_50 : decode cX2_isSame 50 = .ok (.getfield 22, 3) := by decide +kernel
theorem dX2_isSame_53 : decode cX2_isSame 53 = .ok (.imul, 1) := by decide +kernel
theorem dX2_isSame_54 : decode cX2_isSame 54 = .ok (.iload_n 2, 1) := by decide +kernel
theorem dX2_isSame_55 : decode cX2_isSame 55 = .ok (.iadd, 1) := by decide +kernel
theorem dX2_isSame_56 : decode cX2_isSame 56 = .ok (.baload, 1) := by decide +kernel
theorem dX2_isSame_57 : decode cX2_isSame 57 = .ok (.if_icmp .eq 5, 3) := by decide +kernel
theorem dX2_isSame_60 : decode cX2_isSame 60 = .ok (.iconst 0, 1) := by decide +kernel
theorem dX2_isSame_61 : decode cX2_isSame 61 = .ok (.ireturn, 1) := by decide +kernel
theorem dX2_isSame_62 : decode cX2_isSame 62 = .ok (.iinc 2 1, 3) := by decide +kernel
theorem dX2_isSame_65 : decode cX2_isSame 65 = .ok (.goto (-43), 3) := by decide +kernel
theorem dX2_isSame_68 : decode cX2_isSame 68 = .ok (.iconst 1, 1) := by decide +kernel
theorem dX2_isSame_69 : decode cX2_isSame 69 = .ok (.ireturn, 1) := by decide +kernel
def b_X2_isSame_22 (x0 x1 x2 : Int) (M : MM) : Option ((Int) ⊕ (Int)) :=
  (gfr 2 1 x0 M).bind fun v1 =>
  (lai v1 x1 M).bind fun v2 =>
  if w32 x2 < w32 v2 then
    (gfr 2 0 x0 M).bind fun v3 =>
    (lab v3 ((12 * x1) + x2) M).bind fun v4 =>
    (gfr 2 0 x0 M).bind fun v5 =>
    (gfi 2 3 x0 M).bind fun v6 =>
    (lab v5 ((12 * v6) + x2) M).bind fun v7 =>
    if w32 v4 = w32 v7 then
      cnt (x2 + 1)
    else
      xit (some 0)
  else
    xit (some 1)
def l_X2_isSame_22 (x0 x1 x2 : Int) (M : MM) : Option (Int) := lpN (fun s : Int => b_X2_isSame_22 x0 x1 s M) FU x2
def f_X2_isSame (x0 x1 : Int) (M : MM) : Option (Int) :=
  (gfr 2 1 x0 M).bind fun v1 =>
  (lai v1 x1 M).bind fun v2 =>
  (gfr 2 1 x0 M).bind fun v3 =>
  (gfi 2 3 x0 M).bind fun v4 =>
  (lai v3 v4 M).bind fun v5 =>
  if w32 v2 = w32 v5 then
    l_X2_isSame_22 x0 x1 0 M
  else
    some 0
theorem s_X2_isSame_22 {g : GG} {d : Nat} (hD : 0 ≤ d) {x0 x1 x2 : Int} {M : MM} {o : AV × MM} {P : ((Int) ⊕ (Int)) → Prop} (c0 : ∀ s : Int, P (.inl s) → Sem g d YX2_isSame 22 [(1, x0), (0, x1), (0, s)] [] M o) (r0 : ∀ r : Int, P (.inr r) → o = ((0, r), M)) {z : (Int) ⊕ (Int)} (h : b_X2_isSame_22 x0 x1 x2 M = some z) (hz : P z) : Sem g d YX2_isSame 22 [(1, x0), (0, x1), (0, x2)] [] M o := by
  delta b_X2_isSame_22 at h
  refine S_iload_n (i := 2) dX2_isSame_22 rfl rfl ?_
  refine S_aload_n (i := 0) dX2_isSame_23 rfl rfl ?_
  refine P_gfr FLX2_15 rfl dX2_isSame_24 h (fun v1 h => ?_)
  refine S_iload_n (i := 1) dX2_isSame_27 rfl rfl ?_
  refine P_lai dX2_isSame_28 h (fun v2 h => ?_)
  refine P_icmp_ge (tgt := 68) dX2_isSame_29 rfl h (fun h => ?_) (fun h => ?_)
  · obtain ⟨z0, h, hz⟩ := xit_some' (P := fun r => P r) h hz
    refine S_iconst dX2_isSame_68 rfl ?_
    obtain rfl := r0 _ (some_P (P := fun r => P (.inr r)) h hz)
    exact P_ret dX2_isSame_69 rfl (Or.inr ⟨rfl, Or.inr rfl⟩)
  · refine S_aload_n (i := 0) dX2_isSame_32 rfl rfl ?_
    refine P_gfr FLX2_9 rfl dX2_isSame_33 h (fun v3 h => ?_)
    refine S_bipush (z := 12) dX2_isSame_36 rfl ?_
    refine S_iload_n (i := 1) dX2_isSame_38 rfl rfl ?_
    refine S_imul dX2_isSame_39 ?_
    refine S_iload_n (i := 2) dX2_isSame_40 rfl rfl ?_
    refine S_iadd dX2_isSame_41 ?_
    refine P_lab dX2_isSame_42 h (fun v4 h => ?_)
    refine S_aload_n (i := 0) dX2_isSame_43 rfl rfl ?_
    refine P_gfr FLX2_9 rfl dX2_isSame_44 h (fun v5 h => ?_)
    refine S_bipush (z := 12) dX2_isSame_47 rfl ?_
    refine S_aload_n (i := 0) dX2_isSame_49 rfl rfl ?_
    refine P_gfi FLX2_22 rfl dX2_isSame_50 h (fun v6 h => ?_)
    refine S_imul dX2_isSame_53 ?_
    refine S_iload_n (i := 2) dX2_isSame_54 rfl rfl ?_
    refine S_iadd dX2_isSame_55 ?_
    refine P_lab dX2_isSame_56 h (fun v7 h => ?_)
    refine P_icmp_eq (tgt := 62) dX2_isSame_57 rfl h (fun h => ?_) (fun h => ?_)
    · refine S_iinc dX2_isSame_62 rfl rfl rfl ?_
      change Sem g d YX2_isSame 65 [(1, x0), (0, x1), (0, x2 + 1)] [] M o
      refine S_goto (tgt := 22) dX2_isSame_65 rfl ?_
      exact c0 (x2 + 1) (some_P (P := fun r => P r) h hz)
    · obtain ⟨z0, h, hz⟩ := xit_some' (P := fun r => P r) h hz
      refine S_iconst dX2_isSame_60 rfl ?_
      obtain rfl := r0 _ (some_P (P := fun r => P (.inr r)) h hz)
      exact P_ret dX2_isSame_61 rfl (Or.inr ⟨rfl, Or.inl rfl⟩)
theorem sl_X2_isSame_22 {g : GG} {d : Nat} (hD : 0 ≤ d) {x0 x1 x2 : Int} {M : MM} {o : AV × MM} {P : (Int) → Prop} (r0 : ∀ r : Int, P r → o = ((0, r), M)) {z : Int} (h : l_X2_isSame_22 x0 x1 x2 M = some z) (hz : P z) : Sem g d YX2_isSame 22 [(1, x0), (0, x1), (0, x2)] [] M o := by
  refine lp_sound (S := fun s : Int => Sem g d YX2_isSame 22 [(1, x0), (0, x1), (0, s)] [] M o) (P := P) ?_ FU x2 z h hz
  intro s x hx hP
  exact s_X2_isSame_22 hD (P := Sum.elim (fun s : Int => Sem g d YX2_isSame 22 [(1, x0), (0, x1), (0, s)] [] M o) P) (fun s h => h) (fun s h => r0 s h) hx hP
theorem s_X2_isSame_0 {g : GG} {d : Nat} (hD : 0 ≤ d) {x0 x1 : Int} {M : MM} {o : AV × MM} {P : (Int) → Prop} (r0 : ∀ r : Int, P r → o = ((0, r), M)) {z : Int} (h : f_X2_isSame x0 x1 M = some z) (hz : P z) : Sem g d YX2_isSame 0 [(1, x0), (0, x1), (9, 0)] [] M o := by
  delta f_X2_isSame at h
  refine S_aload_n (i := 0) dX2_isSame_0 rfl rfl ?_
  refine P_gfr FLX2_15 rfl dX2_isSame_1 h (fun v1 h => ?_)
  refine S_iload_n (i := 1) dX2_isSame_4 rfl rfl ?_
  refine P_lai dX2_isSame_5 h (fun v2 h => ?_)
  refine S_aload_n (i := 0) dX2_isSame_6 rfl rfl ?_
  refine P_gfr FLX2_15 rfl dX2_isSame_7 h (fun v3 h => ?_)
  refine S_aload_n (i := 0) dX2_isSame_10 rfl rfl ?_
  refine P_gfi FLX2_22 rfl dX2_isSame_11 h (fun v4 h => ?_)
  refine P_lai dX2_isSame_14 h (fun v5 h => ?_)
  refine P_icmp_eq (tgt := 20) dX2_isSame_15 rfl h (fun h => ?_) (fun h => ?_)
  · refine S_iconst dX2_isSame_20 rfl ?_
    refine S_istore_n (i := 2) dX2_isSame_21 rfl (Nat.le_of_ble_eq_true rfl) rfl rfl ?_
    change Sem g d YX2_isSame 22 [(1, x0), (0, x1), (0, 0)] [] M o
    exact sl_X2_isSame_22 hD r0 h hz
  · refine S_iconst dX2_isSame_18 rfl ?_
    obtain rfl := r0 _ (some_P (P := fun r => P r) h hz)
    exact P_ret dX2_isSame_19 rfl (Or.inr ⟨rfl, Or.inl rfl⟩)
theorem F_X2_isSame {g : GG} {d : Nat} (hD : 0 ≤ d) {x0 x1 : Int} {M : MM} {r : Int} (h : f_X2_isSame x0 x1 M = some r) : Sem g d YX2_isSame 0 (ini YX2_isSame [(1, x0), (0, x1)]) [] M ((0, r), M) := by
  change Sem g d YX2_isSame 0 [(1, x0), (0, x1), (9, 0)] [] M ((0, r), M)
  exact s_X2_isSame_0 hD (P := fun x => x = r) (fun q e => by rw [e]) h rfl
/-! PeerSearch$Cutter.note(I)V -/
theorem dX2_note_0 : decode cX2_note 0 = .ok (.aload_n 0, 1) := by decide +kernel
theorem dX2_note_1 : decode cX2_note 1 = .ok (.getfield 15, 3) := by decide +kernel
theorem dX2_note_4 : decode cX2_note 4 = .ok (.aload_n 0, 1) := by decide +kernel
theorem dX2_note_5 : decode cX2_note 5 = .ok (.getfield 22, 3) := by decide +kernel
theorem dX2_note_8 : decode cX2_note 8 = .ok (.iload_n 1, 1) := by decide +kernel
theorem dX2_note_9 : decode cX2_note 9 = .ok (.iastore, 1) := by decide +kernel
theorem dX2_note_10 : decode cX2_note 10 = .ok (.iconst 0, 1) := by decide +kernel
theorem dX2_note_11 : decode cX2_note 11 = .ok (.istore_n 2, 1) := by decide +kernel
theorem dX2_note_12 : decode cX2_note 12 = .ok (.iload_n 2, 1) := by decide +kernel
theorem dX2_note_13 : decode cX2_note 13 = .ok (.aload_n 0, 1) := by decide +kernel
theorem dX2_note_14 : decode cX2_note 14 = .ok (.getfield 22, 3) := by decide +kernel
theorem dX2_note_17 : decode cX2_note 17 = .ok (.if_icmp .ge 40, 3) := by decide +kernel
theorem dX2_note_20 : decode cX2_note 20 = .ok (.aload_n 0, 1) := by decide +kernel
theorem dX2_note_21 : decode cX2_note 21 = .ok (.iload_n 2, 1) := by decide +kernel
theorem dX2_note_22 : decode cX2_note 22 = .ok (.invokevirtual 34, 3) := by decide +kernel
theorem dX2_note_25 : decode cX2_note 25 = .ok (.ifCond .ne 6, 3) := by decide +kernel
theorem dX2_note_28 : decode cX2_note 28 = .ok (.goto 23, 3) := by decide +kernel
theorem dX2_note_31 : decode cX2_note 31 = .ok (.aload_n 0, 1) := by decide +kernel
theorem dX2_note_32 : decode cX2_note 32 = .ok (.getfield 19, 3) := by decide +kernel
theorem dX2_note_35 : decode cX2_note 35 = .ok (.iload_n 2, 1) := by decide +kernel
theorem dX2_note_36 : decode cX2_note 36 = .ok (.aload_n 0, 1) := by decide +kernel
theorem dX2_note_37 : decode cX2_note 37 = .ok (.getfield 19, 3) := by decide +kernel
theorem dX2_note_40 : decode cX2_note 40 = .ok (.iload_n 2, 1) := by decide +kernel
theorem dX2_note_41 : decode cX2_note 41 = .ok (.iaload, 1) := by decide +kernel
theorem dX2_note_42 : decode cX2_note 42 = .ok (.iconst 1, 1) := by decide +kernel
theorem dX2_note_43 : decode cX2_note 43 = .ok (.iadd, 1) := by decide +kernel
theorem dX2_note_44 : decode cX2_note 44 = .ok (.bipush 15, 2) := by decide +kernel
theorem dX2_note_46 : decode cX2_note 46 = .ok (.invokestatic 38, 3) := by decide +kernel
theorem dX2_note_49 : decode cX2_note 49 = .ok (.iastore, 1) := by decide +kernel
theorem dX2_note_50 : decode cX2_note 50 = .ok (.return_, 1) := by decide +kernel
theorem dX2_note_51 : decode cX2_note 51 = .ok (.iinc 2 1, 3) := by decide +kernel
theorem dX2_note_54 : decode cX2_note 54 = .ok (.goto (-42), 3) := by decide +kernel
theorem dX2_note_57 : decode cX2_note 57 = .ok (.aload_n 0, 1) := by decide +kernel
theorem dX2_note_58 : decode cX2_note 58 = .ok (.getfield 19, 3) := by decide +kernel
theorem dX2_note_61 : decode cX2_note 61 = .ok (.aload_n 0, 1) := by decide +kernel
theorem dX2_note_62 : decode cX2_note 62 = .ok (.getfield 22, 3) := by decide +kernel
theorem dX2_note_65 : decode cX2_note 65 = .ok (.iconst 1, 1) := by decide +kernel
theorem dX2_note_66 : decode cX2_note 66 = .ok (.iastore, 1) := by decide +kernel
theorem dX2_note_67 : decode cX2_note 67 = .ok (.aload_n 0, 1) := by decide +kernel
theorem dX2_note_68 : decode cX2_note 68 = .ok (.dup, 1) := by decide +kernel
theorem dX2_note_69 : decode cX2_note 69 = .ok (.getfield 22, 3) := by decide +kernel
theorem dX2_note_72 : decode cX2_note 72 = .ok (.iconst 1, 1) := by decide +kernel
theorem dX2_note_73 : decode cX2_note 73 = .ok (.iadd, 1) := by decide +kernel
theorem dX2_note_74 : decode cX2_note 74 = .ok (.putfield 22, 3) := by decide +kernel
theorem dX2_note_77 : decode cX2_note 77 = .ok (.return_, 1) := by decide +kernel
def j_X2_note_57 (x0 : Int) (M : MM) : Option (MM) :=
  (gfr 2 2 x0 M).bind fun v1 =>
  (gfi 2 3 x0 M).bind fun v2 =>
  (sai v1 v2 1 M).bind fun M1 =>
  (gfi 2 3 x0 M1).bind fun v3 =>
  (pfi 2 3 x0 (v3 + 1) M1).bind fun M2 =>
  some M2
def j_X2_note_31 (x0 x2 : Int) (M : MM) : Option (MM) :=
  (gfr 2 2 x0 M).bind fun v1 =>
  (gfr 2 2 x0 M).bind fun v2 =>
  (lai v2 x2 M).bind fun v3 =>
  (sai v1 x2 (jmin (v3 + 1) 15) M).bind fun M1 =>
  some M1
def b_X2_note_12 (x0 x2 : Int) (M : MM) : Option ((Int) ⊕ (MM)) :=
  (gfi 2 3 x0 M).bind fun v1 =>
  if w32 x2 < w32 v1 then
    ck 2 x0 M <| (f_X2_isSame x0 x2 M).bind fun v2 =>
    if w32 v2 = 0 then
      cnt (x2 + 1)
    else
      xit (j_X2_note_31 x0 x2 M)
  else
    xit (j_X2_note_57 x0 M)
def l_X2_note_12 (x0 x2 : Int) (M : MM) : Option (MM) := lpN (fun s : Int => b_X2_note_12 x0 s M) FU x2
def f_X2_note (x0 x1 : Int) (M : MM) : Option (MM) :=
  (gfr 2 1 x0 M).bind fun v1 =>
  (gfi 2 3 x0 M).bind fun v2 =>
  (sai v1 v2 x1 M).bind fun M1 =>
  l_X2_note_12 x0 0 M1
theorem s_X2_note_57 {g : GG} {d : Nat} (hD : 1 ≤ d) {x0 : Int} {M : MM} {o : AV × MM} {P : (MM) → Prop} (r0 : ∀ r : MM, P r → o = ((9, 0), r)) {z : MM} (h : j_X2_note_57 x0 M = some z) (hz : P z) : Sem g d YX2_note 57 [(1, x0), (9, 0), (9, 0)] [] M o := by
  delta j_X2_note_57 at h
  refine S_aload_n (i := 0) dX2_note_57 rfl rfl ?_
  refine P_gfr FLX2_19 rfl dX2_note_58 h (fun v1 h => ?_)
  refine S_aload_n (i := 0) dX2_note_61 rfl rfl ?_
  refine P_gfi FLX2_22 rfl dX2_note_62 h (fun v2 h => ?_)
  refine S_iconst dX2_note_65 rfl ?_
  refine P_sai dX2_note_66 h (fun M1 h => ?_)
  refine S_aload_n (i := 0) dX2_note_67 rfl rfl ?_
  refine S_dup dX2_note_68 (Nat.le_of_ble_eq_true rfl) ?_
  refine P_gfi FLX2_22 rfl dX2_note_69 h (fun v3 h => ?_)
  refine S_iconst dX2_note_72 rfl ?_
  refine S_iadd dX2_note_73 ?_
  refine P_pfi FLX2_22 FPX2_22 rfl dX2_note_74 h (fun M2 h => ?_)
  obtain rfl := r0 _ (some_P (P := fun r => P r) h hz)
  exact S_return dX2_note_77 rfl
theorem s_X2_note_31 {g : GG} {d : Nat} (hD : 1 ≤ d) {x0 x2 : Int} {M : MM} {o : AV × MM} {P : (MM) → Prop} (r0 : ∀ r : MM, P r → o = ((9, 0), r)) {z : MM} (h : j_X2_note_31 x0 x2 M = some z) (hz : P z) : Sem g d YX2_note 31 [(1, x0), (9, 0), (0, x2)] [] M o := by
  delta j_X2_note_31 at h
  refine S_aload_n (i := 0) dX2_note_31 rfl rfl ?_
  refine P_gfr FLX2_19 rfl dX2_note_32 h (fun v1 h => ?_)
  refine S_iload_n (i := 2) dX2_note_35 rfl rfl ?_
  refine S_aload_n (i := 0) dX2_note_36 rfl rfl ?_
  refine P_gfr FLX2_19 rfl dX2_note_37 h (fun v2 h => ?_)
  refine S_iload_n (i := 2) dX2_note_40 rfl rfl ?_
  refine P_lai dX2_note_41 h (fun v3 h => ?_)
  refine S_iconst dX2_note_42 rfl ?_
  refine S_iadd dX2_note_43 ?_
  refine S_bipush (z := 15) dX2_note_44 rfl ?_
  refine S_min q1705 dX2_note_46 rfl (by omega) ?_
  refine P_sai dX2_note_49 h (fun M1 h => ?_)
  obtain rfl := r0 _ (some_P (P := fun r => P r) h hz)
  exact S_return dX2_note_50 rfl
theorem s_X2_note_12 {g : GG} {d : Nat} (hD : 1 ≤ d) {x0 x2 : Int} {M : MM} {o : AV × MM} {P : ((Int) ⊕ (MM)) → Prop} (c0 : ∀ s : Int, P (.inl s) → Sem g d YX2_note 12 [(1, x0), (9, 0), (0, s)] [] M o) (r0 : ∀ r : MM, P (.inr r) → o = ((9, 0), r)) {z : (Int) ⊕ (MM)} (h : b_X2_note_12 x0 x2 M = some z) (hz : P z) : Sem g d YX2_note 12 [(1, x0), (9, 0), (0, x2)] [] M o := by
  delta b_X2_note_12 at h
  refine S_iload_n (i := 2) dX2_note_12 rfl rfl ?_
  refine S_aload_n (i := 0) dX2_note_13 rfl rfl ?_
  refine P_gfi FLX2_22 rfl dX2_note_14 h (fun v1 h => ?_)
  refine P_icmp_ge (tgt := 57) dX2_note_17 rfl h (fun h => ?_) (fun h => ?_)
  · refine S_weak (ls' := [(1, x0), (9, 0), (9, 0)]) ⟨Or.inr rfl, ⟨Or.inl rfl, ⟨Or.inl rfl, trivial⟩⟩⟩ ?_
    obtain ⟨z0, h, hz⟩ := xit_some' (P := fun r => P r) h hz
    exact s_X2_note_57 hD (P := fun r => P (.inr r)) r0 h hz
  · refine S_aload_n (i := 0) dX2_note_20 rfl rfl ?_
    refine S_iload_n (i := 2) dX2_note_21 rfl rfl ?_
    refine P_invVp 0 [(0, x2)] [] CVX2_isSame MLX2_34 dX2_note_22 rfl rfl rfl rfl rfl (by omega) h (fun r h => F_X2_isSame (by omega) h) (fun v2 h => ?_)
    refine P_if_ne (tgt := 31) dX2_note_25 rfl h (fun h => ?_) (fun h => ?_)
    · obtain ⟨z0, h, hz⟩ := xit_some' (P := fun r => P r) h hz
      exact s_X2_note_31 hD (P := fun r => P (.inr r)) r0 h hz
    · refine S_goto (tgt := 51) dX2_note_28 rfl ?_
      refine S_iinc dX2_note_51 rfl rfl rfl ?_
      change Sem g d YX2_note 54 [(1, x0), (9, 0), (0, x2 + 1)] [] M o
      refine S_goto (tgt := 12) dX2_note_54 rfl ?_
      exact c0 (x2 + 1) (some_P (P := fun r => P r) h hz)
theorem sl_X2_note_12 {g : GG} {d : Nat} (hD : 1 ≤ d) {x0 x2 : Int} {M : MM} {o : AV × MM} {P : (MM) → Prop} (r0 : ∀ r : MM, P r → o = ((9, 0), r)) {z : MM} (h : l_X2_note_12 x0 x2 M = some z) (hz : P z) : Sem g d YX2_note 12 [(1, x0), (9, 0), (0, x2)] [] M o := by
  refine lp_sound (S := fun s : Int => Sem g d YX2_note 12 [(1, x0), (9, 0), (0, s)] [] M o) (P := P) ?_ FU x2 z h hz
  intro s x hx hP
  exact s_X2_note_12 hD (P := Sum.elim (fun s : Int => Sem g d YX2_note 12 [(1, x0), (9, 0), (0, s)] [] M o) P) (fun s h => h) (fun s h => r0 s h) hx hP
theorem s_X2_note_0 {g : GG} {d : Nat} (hD : 1 ≤ d) {x0 x1 : Int} {M : MM} {o : AV × MM} {P : (MM) → Prop} (r0 : ∀ r : MM, P r → o = ((9, 0), r)) {z : MM} (h : f_X2_note x0 x1 M = some z) (hz : P z) : Sem g d YX2_note 0 [(1, x0), (0, x1), (9, 0)] [] M o := by
  delta f_X2_note at h
  refine S_aload_n (i := 0) dX2_note_0 rfl rfl ?_
  refine P_gfr FLX2_15 rfl dX2_note_1 h (fun v1 h => ?_)
  refine S_aload_n (i := 0) dX2_note_4 rfl rfl ?_
  refine P_gfi FLX2_22 rfl dX2_note_5 h (fun v2 h => ?_)
  refine S_iload_n (i := 1) dX2_note_8 rfl rfl ?_
  refine P_sai dX2_note_9 h (fun M1 h => ?_)
  refine S_iconst dX2_note_10 rfl ?_
  refine S_istore_n (i := 2) dX2_note_11 rfl (Nat.le_of_ble_eq_true rfl) rfl rfl ?_
  change Sem g d YX2_note 12 [(1, x0), (0, x1), (0, 0)] [] M1 o
  refine S_weak (ls' := [(1, x0), (9, 0), (0, 0)]) ⟨Or.inr rfl, ⟨Or.inl rfl, ⟨Or.inr rfl, trivial⟩⟩⟩ ?_
  exact sl_X2_note_12 hD r0 h hz
theorem F_X2_note {g : GG} {d : Nat} (hD : 1 ≤ d) {x0 x1 : Int} {M : MM} {r : MM} (h : f_X2_note x0 x1 M = some r) : Sem g d YX2_note 0 (ini YX2_note [(1, x0), (0, x1)]) [] M ((9, 0), r) := by
  change Sem g d YX2_note 0 [(1, x0), (0, x1), (9, 0)] [] M ((9, 0), r)
  exact s_X2_note_0 hD (P := fun x => x = r) (fun q e => by rw [e]) h rfl
/-! PeerSearch$Cutter.small(I)I -/
theorem dX2_small_0 : decode cX2_small 0 = .ok (.iload_n 0, 1) := by decide +kernel
theorem dX2_small_1 : decode cX2_small 1 = .ok (.bipush 65, 2) := by decide +kernel
theorem dX2_small_3 : decode cX2_small 3 = .ok (.if_icmp .lt 19, 3) := by decide +kernel
theorem dX2_small_6 : decode cX2_small 6 = .ok (.iload_n 0, 1) := by decide +kernel
theorem dX2_small_7 : decode cX2_small 7 = .ok (.bipush 90, 2) := by decide +kernel
theorem dX2_small_9 : decode cX2_small 9 = .ok (.if_icmp .gt 13, 3) := by decide +kernel
theorem dX2_small_12 : decode cX2_small 12 = .ok (.iload_n 0, 1) := by decide +kernel
theorem dX2_small_13 : decode cX2_small 13 = .ok (.bipush 97, 2) := by decide +kernel
theorem dX2_small_15 : decode cX2_small 15 = .ok (.iadd, 1) := by decide +kernel
theorem dX2_small_16 : decode cX2_small 16 = .ok (.bipush 65, 2) := by decide +kernel
theorem dX2_small_18 : decode cX2_small 18 = .ok (.isub, 1) := by decide +kernel
theorem dX2_small_19 : decode cX2_small 19 = .ok (.goto 32, 3) := by decide +kernel
theorem dX2_small_22 : decode cX2_small 22 = .ok (.iload_n 0, 1) := by decide +kernel
theorem dX2_small_23 : decode cX2_small 23 = .ok (.bipush 97, 2) := by decide +kernel
theorem dX2_small_25 : decode cX2_small 25 = .ok (.if_icmp .lt 9, 3) := by decide +kernel
theorem dX2_small_28 : decode cX2_small 28 = .ok (.iload_n 0, 1) := by decide +kernel
theorem dX2_small_29 : decode cX2_small 29 = .ok (.bipush 122, 2) := by decide +kernel
theorem dX2_small_31 : decode cX2_small 31 = .ok (.if_icmp .le 15, 3) := by decide +kernel
theorem dX2_small_34 : decode cX2_small 34 = .ok (.iload_n 0, 1) := by decide +kernel
theorem dX2_small_35 : decode cX2_small 35 = .ok (.bipush 48, 2) := by decide +kernel
theorem dX2_small_37 : decode cX2_small 37 = .ok (.if_icmp .lt 13, 3) := by decide +kernel
theorem dX2_small_40 : decode cX2_small 40 = .ok (.iload_n 0, 1) := by decide +kernel
theorem dX2_small_41 : decode cX2_small 41 = .ok (.bipush 57, 2) := by decide +kernel
theorem dX2_small_43 : decode cX2_small 43 = .ok (.if_icmp .gt 7, 3) := by decide +kernel
theorem dX2_small_46 : decode cX2_small 46 = .ok (.iload_n 0, 1) := by decide +kernel
theorem dX2_small_47 : decode cX2_small 47 = .ok (.goto 4, 3) := by decide +kernel
theorem dX2_small_50 : decode cX2_small 50 = .ok (.iconst 0, 1) := by decide +kernel
theorem dX2_small_51 : decode cX2_small 51 = .ok (.ireturn, 1) := by decide +kernel
def j_X2_small_51 (y0 : Int) : Option (Int) :=
  some y0
def j_X2_small_50 : Option (Int) :=
  j_X2_small_51 0
def j_X2_small_46 (x0 : Int) : Option (Int) :=
  j_X2_small_51 x0
def j_X2_small_34 (x0 : Int) : Option (Int) :=
  if w32 x0 < w32 48 then
    j_X2_small_50
  else
    if w32 57 < w32 x0 then
      j_X2_small_50
    else
      j_X2_small_46 x0
def j_X2_small_22 (x0 : Int) : Option (Int) :=
  if w32 x0 < w32 97 then
    j_X2_small_34 x0
  else
    if w32 122 < w32 x0 then
      j_X2_small_34 x0
    else
      j_X2_small_46 x0
def f_X2_small (x0 : Int) : Option (Int) :=
  if w32 x0 < w32 65 then
    j_X2_small_22 x0
  else
    if w32 90 < w32 x0 then
      j_X2_small_22 x0
    else
      j_X2_small_51 ((x0 + 97) - 65)
theorem s_X2_small_51 {g : GG} {d : Nat} (hD : 0 ≤ d) {y0 : Int} {M : MM} {o : AV × MM} {P : (Int) → Prop} (r0 : ∀ r : Int, P r → o = ((0, r), M)) {z : Int} (h : j_X2_small_51 y0 = some z) (hz : P z) : Sem g d YX2_small 51 [(9, 0)] [(0, y0)] M o := by
  delta j_X2_small_51 at h
  obtain rfl := r0 _ (some_P (P := fun r => P r) h hz)
  exact P_ret dX2_small_51 rfl (Or.inl rfl)
theorem s_X2_small_50 {g : GG} {d : Nat} (hD : 0 ≤ d) {M : MM} {o : AV × MM} {P : (Int) → Prop} (r0 : ∀ r : Int, P r → o = ((0, r), M)) {z : Int} (h : j_X2_small_50 = some z) (hz : P z) : Sem g d YX2_small 50 [(9, 0)] [] M o := by
  delta j_X2_small_50 at h
  refine S_iconst dX2_small_50 rfl ?_
  exact s_X2_small_51 hD r0 h hz
theorem s_X2_small_46 {g : GG} {d : Nat} (hD : 0 ≤ d) {x0 : Int} {M : MM} {o : AV × MM} {P : (Int) → Prop} (r0 : ∀ r : Int, P r → o = ((0, r), M)) {z : Int} (h : j_X2_small_46 x0 = some z) (hz : P z) : Sem g d YX2_small 46 [(0, x0)] [] M o := by
  delta j_X2_small_46 at h
  refine S_iload_n (i := 0) dX2_small_46 rfl rfl ?_
  refine S_goto (tgt := 51) dX2_small_47 rfl ?_
  refine S_weak (ls' := [(9, 0)]) ⟨Or.inl rfl, trivial⟩ ?_
  exact s_X2_small_51 hD r0 h hz
theorem s_X2_small_34 {g : GG} {d : Nat} (hD : 0 ≤ d) {x0 : Int} {M : MM} {o : AV × MM} {P : (Int) → Prop} (r0 : ∀ r : Int, P r → o = ((0, r), M)) {z : Int} (h : j_X2_small_34 x0 = some z) (hz : P z) : Sem g d YX2_small 34 [(0, x0)] [] M o := by
  delta j_X2_small_34 at h
  refine S_iload_n (i := 0) dX2_small_34 rfl rfl ?_
  refine S_bipush (z := 48) dX2_small_35 rfl ?_
  refine P_icmp_lt (tgt := 50) dX2_small_37 rfl h (fun h => ?_) (fun h => ?_)
  · refine S_weak (ls' := [(9, 0)]) ⟨Or.inl rfl, trivial⟩ ?_
    exact s_X2_small_50 hD r0 h hz
  · refine S_iload_n (i := 0) dX2_small_40 rfl rfl ?_
    refine S_bipush (z := 57) dX2_small_41 rfl ?_
    refine P_icmp_gt (tgt := 50) dX2_small_43 rfl h (fun h => ?_) (fun h => ?_)
    · refine S_weak (ls' := [(9, 0)]) ⟨Or.inl rfl, trivial⟩ ?_
      exact s_X2_small_50 hD r0 h hz
    · exact s_X2_small_46 hD r0 h hz
theorem s_X2_small_22 {g : GG} {d : Nat} (hD : 0 ≤ d) {x0 : Int} {M : MM} {o : AV × MM} {P : (Int) → Prop} (r0 : ∀ r : Int, P r → o = ((0, r), M)) {z : Int} (h : j_X2_small_22 x0 = some z) (hz : P z) : Sem g d YX2_small 22 [(0, x0)] [] M o := by
  delta j_X2_small_22 at h
  refine S_iload_n (i := 0) dX2_small_22 rfl rfl ?_
  refine S_bipush (z := 97) dX2_small_23 rfl ?_
  refine P_icmp_lt (tgt := 34) dX2_small_25 rfl h (fun h => ?_) (fun h => ?_)
  · exact s_X2_small_34 hD r0 h hz
  · refine S_iload_n (i := 0) dX2_small_28 rfl rfl ?_
    refine S_bipush (z := 122) dX2_small_29 rfl ?_
    refine P_icmp_le (tgt := 46) dX2_small_31 rfl h (fun h => ?_) (fun h => ?_)
    · exact s_X2_small_46 hD r0 h hz
    · exact s_X2_small_34 hD r0 h hz
theorem s_X2_small_0 {g : GG} {d : Nat} (hD : 0 ≤ d) {x0 : Int} {M : MM} {o : AV × MM} {P : (Int) → Prop} (r0 : ∀ r : Int, P r → o = ((0, r), M)) {z : Int} (h : f_X2_small x0 = some z) (hz : P z) : Sem g d YX2_small 0 [(0, x0)] [] M o := by
  delta f_X2_small at h
  refine S_iload_n (i := 0) dX2_small_0 rfl rfl ?_
  refine S_bipush (z := 65) dX2_small_1 rfl ?_
  refine P_icmp_lt (tgt := 22) dX2_small_3 rfl h (fun h => ?_) (fun h => ?_)
  · exact s_X2_small_22 hD r0 h hz
  · refine S_iload_n (i := 0) dX2_small_6 rfl rfl ?_
    refine S_bipush (z := 90) dX2_small_7 rfl ?_
    refine P_icmp_gt (tgt := 22) dX2_small_9 rfl h (fun h => ?_) (fun h => ?_)
    · exact s_X2_small_22 hD r0 h hz
    · refine S_iload_n (i := 0) dX2_small_12 rfl rfl ?_
      refine S_bipush (z := 97) dX2_small_13 rfl ?_
      refine S_iadd dX2_small_15 ?_
      refine S_bipush (z := 65) dX2_small_16 rfl ?_
      refine S_isub dX2_small_18 ?_
      refine S_goto (tgt := 51) dX2_small_19 rfl ?_
      refine S_weak (ls' := [(9, 0)]) ⟨Or.inl rfl, trivial⟩ ?_
      exact s_X2_small_51 hD r0 h hz
theorem F_X2_small {g : GG} {d : Nat} (hD : 0 ≤ d) {x0 : Int} {M : MM} {r : Int} (h : f_X2_small x0 = some r) : Sem g d YX2_small 0 (ini YX2_small [(0, x0)]) [] M ((0, r), M) := by
  change Sem g d YX2_small 0 [(0, x0)] [] M ((0, r), M)
  exact s_X2_small_0 hD (P := fun x => x = r) (fun q e => by rw [e]) h rfl
/-! PeerSearch$Cutter.cut([BI)V -/
theorem dX2_cut_0 : decode cX2_cut 0 = .ok (.aload_n 0, 1) := by decide +kernel
theorem dX2_cut_1 : decode cX2_cut 1 = .ok (.iconst 0, 1) := by decide +kernel
theorem dX2_cut_2 : decode cX2_cut 2 = .ok (.putfield 22, 3) := by decide +kernel
theorem dX2_cut_5 : decode cX2_cut 5 = .ok (.iconst 0, 1) := by decide +kernel
theorem dX2_cut_6 : decode cX2_cut 6 = .ok (.istore_n 3, 1) := by decide +kernel
theorem dX2_cut_7 : decode cX2_cut 7 = .ok (.iload_n 3, 1) := by decide +kernel
theorem dX2_cut_8 : decode cX2_cut 8 = .ok (.iload_n 2, 1) := by decide +kernel
theorem dX2_cut_9 : decode cX2_cut 9 = .ok (.if_icmp .ge 78, 3) := by decide +kernel
theorem dX2_cut_12 : decode cX2_cut 12 = .ok (.iconst 0, 1) := by decide +kernel
theorem dX2_cut_13 : decode cX2_cut 13 = .ok (.istore 4, 2) := by decide +kernel
theorem dX2_cut_15 : decode cX2_cut 15 = .ok (.iload_n 3, 1) := by decide +kernel
theorem dX2_cut_16 : decode cX2_cut 16 = .ok (.iload_n 2, 1) := by decide +kernel
theorem dX2_cut_17 : decode cX2_cut 17 = .ok (.if_icmp .ge 50, 3) := by decide +kernel
theorem dX2_cut_20 : decode cX2_cut 20 = .ok (.aload_n 1, 1) := by decide +kernel
theorem dX2_cut_21 : decode cX2_cut 21 = .ok (.iload_n 3, 1) := by decide +kernel
theorem dX2_cut_22 : decode cX2_cut 22 = .ok (.baload, 1) := by decide +kernel
theorem dX2_cut_23 : decode cX2_cut 23 = .ok (.invokestatic 26, 3) := by decide +kernel
theorem dX2_cut_26 : decode cX2_cut 26 = .ok (.ifCond .eq 41, 3) := by decide +kernel
theorem dX2_cut_29 : decode cX2_cut 29 = .ok (.iload 4, 2) := by decide +kernel
theorem dX2_cut_31 : decode cX2_cut 31 = .ok (.bipush 12, 2) := by decide +kernel
theorem dX2_cut_33 : decode cX2_cut 33 = .ok (.if_icmp .ge 28, 3) := by decide +kernel
theorem dX2_cut_36 : decode cX2_cut 36 = .ok (.aload_n 0, 1) := by decide +kernel
theorem dX2_cut_37 : decode cX2_cut 37 = .ok (.getfield 9, 3) := by decide +kernel
theorem dX2_cut_40 : decode cX2_cut 40 = .ok (.bipush 12, 2) := by decide +kernel
theorem dX2_cut_42 : decode cX2_cut 42 = .ok (.aload_n 0, 1) := by decide +kernel
theorem dX2_cut_43 : decode cX2_cut 43 = .ok (.getfield 22, 3) := by decide +kernel
theorem dX2_cut_46 : decode cX2_cut 46 = .ok (.imul, 1) := by decide +kernel
theorem dX2_cut_47 : decode cX2_cut 47 = .ok (.iload 4, 2) := by decide +kernel
theorem dX2_cut_49 : decode cX2_cut 49 = .ok (.iadd, 1) := by decide +kernel
theorem dX2_cut_50 : decode cX2_cut 50 = .ok (.aload_n 1, 1) := by decide +kernel
theorem dX2_cut_51 : decode cX2_cut 51 = .ok (.iload_n 3, 1) := by decide +kernel
theorem dX2_cut_52 : decode cX2_cut 52 = .ok (.baload, 1) := by decide +kernel
theorem dX2_cut_53 : decode cX2_cut 53 = .ok (.invokestatic 26, 3) := by decide +kernel
theorem dX2_cut_56 : decode cX2_cut 56 = .ok (.i2b, 1) := by decide +kernel
theorem dX2_cut_57 : decode cX2_cut 57 = .ok (.bastore, 1) := by decide +kernel
theorem dX2_cut_58 : decode cX2_cut 58 = .ok (.iinc 4 1, 3) := by decide +kernel
theorem dX2_cut_61 : decode cX2_cut 61 = .ok (.iinc 3 1, 3) := by decide +kernel
theorem dX2_cut_64 : decode cX2_cut 64 = .ok (.goto (-49), 3) := by decide +kernel
theorem dX2_cut_67 : decode cX2_cut 67 = .ok (.iload 4, 2) := by decide +kernel
theorem dX2_cut_69 : decode cX2_cut 69 = .ok (.ifCond .le 12, 3) := by decide +kernel
theorem dX2_cut_72 : decode cX2_cut 72 = .ok (.aload_n 0, 1) := by decide +kernel
theorem dX2_cut_73 : decode cX2_cut 73 = .ok (.iload 4, 2) := by decide +kernel
theorem dX2_cut_75 : decode cX2_cut 75 = .ok (.invokevirtual 30, 3) := by decide +kernel
theorem dX2_cut_78 : decode cX2_cut 78 = .ok (.goto 6, 3) := by decide +kernel
theorem dX2_cut_81 : decode cX2_cut 81 = .ok (.iinc 3 1, 3) := by decide +kernel
theorem dX2_cut_84 : decode cX2_cut 84 = .ok (.goto (-77), 3) := by decide +kernel
theorem dX2_cut_87 : decode cX2_cut 87 = .ok (.return_, 1) := by decide +kernel
def j_X2_cut_84 (x0 x1 x2 x3 : Int) (M : MM) : Option ((Int × MM) ⊕ (MM)) :=
  cnt (x3, M)
def j_X2_cut_67 (x0 x1 x2 x3 x4 : Int) (M : MM) : Option ((Int × MM) ⊕ (MM)) :=
  if 0 < w32 x4 then
    ck 2 x0 M <| (f_X2_note x0 x4 M).bind fun M1 =>
    j_X2_cut_84 x0 x1 x2 x3 M1
  else
    j_X2_cut_84 x0 x1 x2 (x3 + 1) M
def j_X2_cut_61 (x0 x1 x2 x3 x4 : Int) (M : MM) : Option ((Int × Int × MM) ⊕ ((Int × MM) ⊕ (MM))) :=
  cnt (x3 + 1, x4, M)
def b_X2_cut_15 (x0 x1 x2 x3 x4 : Int) (M : MM) : Option ((Int × Int × MM) ⊕ ((Int × MM) ⊕ (MM))) :=
  if w32 x3 < w32 x2 then
    (lab x1 x3 M).bind fun v1 =>
    (f_X2_small v1).bind fun v2 =>
    if w32 v2 = 0 then
      xit (j_X2_cut_67 x0 x1 x2 x3 x4 M)
    else
      if w32 x4 < w32 12 then
        (gfr 2 0 x0 M).bind fun v3 =>
        (gfi 2 3 x0 M).bind fun v4 =>
        (lab x1 x3 M).bind fun v5 =>
        (f_X2_small v5).bind fun v6 =>
        (sab v3 ((12 * v4) + x4) (sx8 v6) M).bind fun M1 =>
        j_X2_cut_61 x0 x1 x2 x3 (x4 + 1) M1
      else
        j_X2_cut_61 x0 x1 x2 x3 x4 M
  else
    xit (j_X2_cut_67 x0 x1 x2 x3 x4 M)
def l_X2_cut_15 (x0 x1 x2 x3 x4 : Int) (M : MM) : Option ((Int × MM) ⊕ (MM)) := lpN (fun s : Int × Int × MM => b_X2_cut_15 x0 x1 x2 s.1 s.2.1 s.2.2) FU (x3, x4, M)
def b_X2_cut_7 (x0 x1 x2 x3 : Int) (M : MM) : Option ((Int × MM) ⊕ (MM)) :=
  if w32 x3 < w32 x2 then
    l_X2_cut_15 x0 x1 x2 x3 0 M
  else
    xit (some M)
def l_X2_cut_7 (x0 x1 x2 x3 : Int) (M : MM) : Option (MM) := lpN (fun s : Int × MM => b_X2_cut_7 x0 x1 x2 s.1 s.2) FU (x3, M)
def f_X2_cut (x0 x1 x2 : Int) (M : MM) : Option (MM) :=
  (pfi 2 3 x0 0 M).bind fun M1 =>
  l_X2_cut_7 x0 x1 x2 0 M1
theorem s_X2_cut_84 {g : GG} {d : Nat} (hD : 2 ≤ d) {x0 x1 x2 x3 : Int} {M : MM} {o : AV × MM} {P : ((Int × MM) ⊕ (MM)) → Prop} (c0 : ∀ s : Int × MM, P (.inl s) → Sem g d YX2_cut 7 [(1, x0), (1, x1), (0, x2), (0, s.1), (9, 0)] [] s.2 o) (r0 : ∀ r : MM, P (.inr r) → o = ((9, 0), r)) {z : (Int × MM) ⊕ (MM)} (h : j_X2_cut_84 x0 x1 x2 x3 M = some z) (hz : P z) : Sem g d YX2_cut 84 [(1, x0), (1, x1), (0, x2), (0, x3), (9, 0)] [] M o := by
  delta j_X2_cut_84 at h
  refine S_goto (tgt := 7) dX2_cut_84 rfl ?_
  exact c0 (x3, M) (some_P (P := fun r => P r) h hz)
theorem s_X2_cut_67 {g : GG} {d : Nat} (hD : 2 ≤ d) {x0 x1 x2 x3 x4 : Int} {M : MM} {o : AV × MM} {P : ((Int × MM) ⊕ (MM)) → Prop} (c0 : ∀ s : Int × MM, P (.inl s) → Sem g d YX2_cut 7 [(1, x0), (1, x1), (0, x2), (0, s.1), (9, 0)] [] s.2 o) (r0 : ∀ r : MM, P (.inr r) → o = ((9, 0), r)) {z : (Int × MM) ⊕ (MM)} (h : j_X2_cut_67 x0 x1 x2 x3 x4 M = some z) (hz : P z) : Sem g d YX2_cut 67 [(1, x0), (1, x1), (0, x2), (0, x3), (0, x4)] [] M o := by
  delta j_X2_cut_67 at h
  refine S_iload dX2_cut_67 rfl ?_
  refine P_if_le (tgt := 81) dX2_cut_69 rfl h (fun h => ?_) (fun h => ?_)
  · refine S_iinc dX2_cut_81 rfl rfl rfl ?_
    change Sem g d YX2_cut 84 [(1, x0), (1, x1), (0, x2), (0, x3 + 1), (0, x4)] [] M o
    refine S_weak (ls' := [(1, x0), (1, x1), (0, x2), (0, x3 + 1), (9, 0)]) ⟨Or.inr rfl, ⟨Or.inr rfl, ⟨Or.inr rfl, ⟨Or.inr rfl, ⟨Or.inl rfl, trivial⟩⟩⟩⟩⟩ ?_
    exact s_X2_cut_84 hD c0 r0 h hz
  · refine S_aload_n (i := 0) dX2_cut_72 rfl rfl ?_
    refine S_iload dX2_cut_73 rfl ?_
    refine P_invVm' [(0, x4)] [] CVX2_note MLX2_30 dX2_cut_75 rfl rfl rfl rfl (by omega) h (fun r h => F_X2_note (by omega) h) (fun M1 h => ?_)
    refine S_goto (tgt := 84) dX2_cut_78 rfl ?_
    refine S_weak (ls' := [(1, x0), (1, x1), (0, x2), (0, x3), (9, 0)]) ⟨Or.inr rfl, ⟨Or.inr rfl, ⟨Or.inr rfl, ⟨Or.inr rfl, ⟨Or.inl rfl, trivial⟩⟩⟩⟩⟩ ?_
    exact s_X2_cut_84 hD c0 r0 h hz
theorem s_X2_cut_61 {g : GG} {d : Nat} (hD : 2 ≤ d) {x0 x1 x2 x3 x4 : Int} {M : MM} {o : AV × MM} {P : ((Int × Int × MM) ⊕ ((Int × MM) ⊕ (MM))) → Prop} (c1 : ∀ s : Int × Int × MM, P (.inl s) → Sem g d YX2_cut 15 [(1, x0), (1, x1), (0, x2), (0, s.1), (0, s.2.1)] [] s.2.2 o) (c0 : ∀ s : Int × MM, P (.inr (.inl s)) → Sem g d YX2_cut 7 [(1, x0), (1, x1), (0, x2), (0, s.1), (9, 0)] [] s.2 o) (r0 : ∀ r : MM, P (.inr (.inr r)) → o = ((9, 0), r)) {z : (Int × Int × MM) ⊕ ((Int × MM) ⊕ (MM))} (h : j_X2_cut_61 x0 x1 x2 x3 x4 M = some z) (hz : P z) : Sem g d YX2_cut 61 [(1, x0), (1, x1), (0, x2), (0, x3), (0, x4)] [] M o := by
  delta j_X2_cut_61 at h
  refine S_iinc dX2_cut_61 rfl rfl rfl ?_
  change Sem g d YX2_cut 64 [(1, x0), (1, x1), (0, x2), (0, x3 + 1), (0, x4)] [] M o
  refine S_goto (tgt := 15) dX2_cut_64 rfl ?_
  exact c1 (x3 + 1, x4, M) (some_P (P := fun r => P r) h hz)
theorem s_X2_cut_15 {g : GG} {d : Nat} (hD : 2 ≤ d) {x0 x1 x2 x3 x4 : Int} {M : MM} {o : AV × MM} {P : ((Int × Int × MM) ⊕ ((Int × MM) ⊕ (MM))) → Prop} (c1 : ∀ s : Int × Int × MM, P (.inl s) → Sem g d YX2_cut 15 [(1, x0), (1, x1), (0, x2), (0, s.1), (0, s.2.1)] [] s.2.2 o) (c0 : ∀ s : Int × MM, P (.inr (.inl s)) → Sem g d YX2_cut 7 [(1, x0), (1, x1), (0, x2), (0, s.1), (9, 0)] [] s.2 o) (r0 : ∀ r : MM, P (.inr (.inr r)) → o = ((9, 0), r)) {z : (Int × Int × MM) ⊕ ((Int × MM) ⊕ (MM))} (h : b_X2_cut_15 x0 x1 x2 x3 x4 M = some z) (hz : P z) : Sem g d YX2_cut 15 [(1, x0), (1, x1), (0, x2), (0, x3), (0, x4)] [] M o := by
  delta b_X2_cut_15 at h
  refine S_iload_n (i := 3) dX2_cut_15 rfl rfl ?_
  refine S_iload_n (i := 2) dX2_cut_16 rfl rfl ?_
  refine P_icmp_ge (tgt := 67) dX2_cut_17 rfl h (fun h => ?_) (fun h => ?_)
  · obtain ⟨z0, h, hz⟩ := xit_some' (P := fun r => P r) h hz
    exact s_X2_cut_67 hD (P := fun r => P (.inr r)) c0 r0 h hz
  · refine S_aload_n (i := 1) dX2_cut_20 rfl rfl ?_
    refine S_iload_n (i := 3) dX2_cut_21 rfl rfl ?_
    refine P_lab dX2_cut_22 h (fun v1 h => ?_)
    refine P_invSp 0 [(0, v1)] [] CSX2_small MLX2_26 dX2_cut_23 rfl rfl rfl rfl rfl (by omega) h (fun r h => F_X2_small (by omega) h) (fun v2 h => ?_)
    refine P_if_eq (tgt := 67) dX2_cut_26 rfl h (fun h => ?_) (fun h => ?_)
    · obtain ⟨z0, h, hz⟩ := xit_some' (P := fun r => P r) h hz
      exact s_X2_cut_67 hD (P := fun r => P (.inr r)) c0 r0 h hz
    · refine S_iload dX2_cut_29 rfl ?_
      refine S_bipush (z := 12) dX2_cut_31 rfl ?_
      refine P_icmp_ge (tgt := 61) dX2_cut_33 rfl h (fun h => ?_) (fun h => ?_)
      · exact s_X2_cut_61 hD c1 c0 r0 h hz
      · refine S_aload_n (i := 0) dX2_cut_36 rfl rfl ?_
        refine P_gfr FLX2_9 rfl dX2_cut_37 h (fun v3 h => ?_)
        refine S_bipush (z := 12) dX2_cut_40 rfl ?_
        refine S_aload_n (i := 0) dX2_cut_42 rfl rfl ?_
        refine P_gfi FLX2_22 rfl dX2_cut_43 h (fun v4 h => ?_)
        refine S_imul dX2_cut_46 ?_
        refine S_iload dX2_cut_47 rfl ?_
        refine S_iadd dX2_cut_49 ?_
        refine S_aload_n (i := 1) dX2_cut_50 rfl rfl ?_
        refine S_iload_n (i := 3) dX2_cut_51 rfl rfl ?_
        refine P_lab dX2_cut_52 h (fun v5 h => ?_)
        refine P_invSp 0 [(0, v5)] [(0, (12 * v4) + x4), (1, v3)] CSX2_small MLX2_26 dX2_cut_53 rfl rfl rfl rfl rfl (by omega) h (fun r h => F_X2_small (by omega) h) (fun v6 h => ?_)
        refine S_i2b dX2_cut_56 ?_
        refine P_sab dX2_cut_57 h (fun M1 h => ?_)
        refine S_iinc dX2_cut_58 rfl rfl rfl ?_
        change Sem g d YX2_cut 61 [(1, x0), (1, x1), (0, x2), (0, x3), (0, x4 + 1)] [] M1 o
        exact s_X2_cut_61 hD c1 c0 r0 h hz
theorem sl_X2_cut_15 {g : GG} {d : Nat} (hD : 2 ≤ d) {x0 x1 x2 x3 x4 : Int} {M : MM} {o : AV × MM} {P : ((Int × MM) ⊕ (MM)) → Prop} (c0 : ∀ s : Int × MM, P (.inl s) → Sem g d YX2_cut 7 [(1, x0), (1, x1), (0, x2), (0, s.1), (9, 0)] [] s.2 o) (r0 : ∀ r : MM, P (.inr r) → o = ((9, 0), r)) {z : (Int × MM) ⊕ (MM)} (h : l_X2_cut_15 x0 x1 x2 x3 x4 M = some z) (hz : P z) : Sem g d YX2_cut 15 [(1, x0), (1, x1), (0, x2), (0, x3), (0, x4)] [] M o := by
  refine lp_sound (S := fun s : Int × Int × MM => Sem g d YX2_cut 15 [(1, x0), (1, x1), (0, x2), (0, s.1), (0, s.2.1)] [] s.2.2 o) (P := P) ?_ FU (x3, x4, M) z h hz
  intro s x hx hP
  exact s_X2_cut_15 hD (P := Sum.elim (fun s : Int × Int × MM => Sem g d YX2_cut 15 [(1, x0), (1, x1), (0, x2), (0, s.1), (0, s.2.1)] [] s.2.2 o) P) (fun s h => h) (fun s h => c0 s h) (fun s h => r0 s h) hx hP
theorem s_X2_cut_7 {g : GG} {d : Nat} (hD : 2 ≤ d) {x0 x1 x2 x3 : Int} {M : MM} {o : AV × MM} {P : ((Int × MM) ⊕ (MM)) → Prop} (c0 : ∀ s : Int × MM, P (.inl s) → Sem g d YX2_cut 7 [(1, x0), (1, x1), (0, x2), (0, s.1), (9, 0)] [] s.2 o) (r0 : ∀ r : MM, P (.inr r) → o = ((9, 0), r)) {z : (Int × MM) ⊕ (MM)} (h : b_X2_cut_7 x0 x1 x2 x3 M = some z) (hz : P z) : Sem g d YX2_cut 7 [(1, x0), (1, x1), (0, x2), (0, x3), (9, 0)] [] M o := by
  delta b_X2_cut_7 at h
  refine S_iload_n (i := 3) dX2_cut_7 rfl rfl ?_
  refine S_iload_n (i := 2) dX2_cut_8 rfl rfl ?_
  refine P_icmp_ge (tgt := 87) dX2_cut_9 rfl h (fun h => ?_) (fun h => ?_)
  · obtain ⟨z0, h, hz⟩ := xit_some' (P := fun r => P r) h hz
    obtain rfl := r0 _ (some_P (P := fun r => P (.inr r)) h hz)
    exact S_return dX2_cut_87 rfl
  · refine S_iconst dX2_cut_12 rfl ?_
    refine S_istore dX2_cut_13 (Nat.le_of_ble_eq_true rfl) rfl rfl ?_
    change Sem g d YX2_cut 15 [(1, x0), (1, x1), (0, x2), (0, x3), (0, 0)] [] M o
    exact sl_X2_cut_15 hD c0 r0 h hz
theorem sl_X2_cut_7 {g : GG} {d : Nat} (hD : 2 ≤ d) {x0 x1 x2 x3 : Int} {M : MM} {o : AV × MM} {P : (MM) → Prop} (r0 : ∀ r : MM, P r → o = ((9, 0), r)) {z : MM} (h : l_X2_cut_7 x0 x1 x2 x3 M = some z) (hz : P z) : Sem g d YX2_cut 7 [(1, x0), (1, x1), (0, x2), (0, x3), (9, 0)] [] M o := by
  refine lp_sound (S := fun s : Int × MM => Sem g d YX2_cut 7 [(1, x0), (1, x1), (0, x2), (0, s.1), (9, 0)] [] s.2 o) (P := P) ?_ FU (x3, M) z h hz
  intro s x hx hP
  exact s_X2_cut_7 hD (P := Sum.elim (fun s : Int × MM => Sem g d YX2_cut 7 [(1, x0), (1, x1), (0, x2), (0, s.1), (9, 0)] [] s.2 o) P) (fun s h => h) (fun s h => r0 s h) hx hP
theorem s_X2_cut_0 {g : GG} {d : Nat} (hD : 2 ≤ d) {x0 x1 x2 : Int} {M : MM} {o : AV × MM} {P : (MM) → Prop} (r0 : ∀ r : MM, P r → o = ((9, 0), r)) {z : MM} (h : f_X2_cut x0 x1 x2 M = some z) (hz : P z) : Sem g d YX2_cut 0 [(1, x0), (1, x1), (0, x2), (9, 0), (9, 0)] [] M o := by
  delta f_X2_cut at h
  refine S_aload_n (i := 0) dX2_cut_0 rfl rfl ?_
  refine S_iconst dX2_cut_1 rfl ?_
  refine P_pfi FLX2_22 FPX2_22 rfl dX2_cut_2 h (fun M1 h => ?_)
  refine S_iconst dX2_cut_5 rfl ?_
  refine S_istore_n (i := 3) dX2_cut_6 rfl (Nat.le_of_ble_eq_true rfl) rfl rfl ?_
  change Sem g d YX2_cut 7 [(1, x0), (1, x1), (0, x2), (0, 0), (9, 0)] [] M1 o
  exact sl_X2_cut_7 hD r0 h hz
theorem F_X2_cut {g : GG} {d : Nat} (hD : 2 ≤ d) {x0 x1 x2 : Int} {M : MM} {r : MM} (h : f_X2_cut x0 x1 x2 M = some r) : Sem g d YX2_cut 0 (ini YX2_cut [(1, x0), (1, x1), (0, x2)]) [] M ((9, 0), r) := by
  change Sem g d YX2_cut 0 [(1, x0), (1, x1), (0, x2), (9, 0), (9, 0)] [] M ((9, 0), r)
  exact s_X2_cut_0 hD (P := fun x => x = r) (fun q e => by rw [e]) h rfl
