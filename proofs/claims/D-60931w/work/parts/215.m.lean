set_option maxRecDepth 100000
/-! PeerSearchModel.takeIn(I)V -/
theorem dX16_takeIn_0 : decode cX16_takeIn 0 = .ok (.aload_n 0, 1) := by decide +kernel
theorem dX16_takeIn_1 : decode cX16_takeIn 1 = .ok (.aload_n 0, 1) := by decide +kernel
theorem dX16_takeIn_2 : decode cX16_takeIn 2 = .ok (.getfield 100, 3) := by decide +kernel
theorem dX16_takeIn_5 : decode cX16_takeIn 5 = .ok (.iload_n 1, 1) := by decide +kernel
theorem dX16_takeIn_6 : decode cX16_takeIn 6 = .ok (.iaload, 1) := by decide +kernel
theorem dX16_takeIn_7 : decode cX16_takeIn 7 = .ok (.putfield 742, 3) := by decide +kernel
theorem dX16_takeIn_10 : decode cX16_takeIn 10 = .ok (.iconst 0, 1) := by decide +kernel
theorem dX16_takeIn_11 : decode cX16_takeIn 11 = .ok (.istore_n 2, 1) := by decide +kernel
theorem dX16_takeIn_12 : decode cX16_takeIn 12 = .ok (.iload_n 2, 1) := by decide +kernel
theorem dX16_takeIn_13 : decode cX16_takeIn 13 = .ok (.aload_n 0, 1) := by decide +kernel
theorem dX16_takeIn_14 : decode cX16_takeIn 14 = .ok (.getfield 742, 3) := by decide +kernel
theorem dX16_takeIn_17 : decode cX16_takeIn 17 = .ok (.if_icmp .ge 27, 3) := by decide +kernel
theorem dX16_takeIn_20 : decode cX16_takeIn 20 = .ok (.aload_n 0, 1) := by decide +kernel
theorem dX16_takeIn_21 : decode cX16_takeIn 21 = .ok (.getfield 361, 3) := by decide +kernel
theorem dX16_takeIn_24 : decode cX16_takeIn 24 = .ok (.iload_n 2, 1) := by decide +kernel
theorem dX16_takeIn_25 : decode cX16_takeIn 25 = .ok (.aload_n 0, 1) := by decide +kernel
theorem dX16_takeIn_26 : decode cX16_takeIn 26 = .ok (.getfield 104, 3) := by decide +kernel
theorem dX16_takeIn_29 : decode cX16_takeIn 29 = .ok (.sipush 460, 3) := by decide +kernel
theorem dX16_takeIn_32 : decode cX16_takeIn 32 = .ok (.iload_n 1, 1) := by decide +kernel
theorem dX16_takeIn_33 : decode cX16_takeIn 33 = .ok (.imul, 1) := by decide +kernel
theorem dX16_takeIn_34 : decode cX16_takeIn 34 = .ok (.iload_n 2, 1) := by decide +kernel
theorem dX16_takeIn_35 : decode cX16_takeIn 35 = .ok (.iadd, 1) := by decide +kernel
theorem dX16_takeIn_36 : decode cX16_takeIn 36 = .ok (.iaload, 1) := by decide +kernel
theorem dX16_takeIn_37 : decode cX16_takeIn 37 = .ok (.iastore, 1) := by decide +kernel
theorem dX16_takeIn_38 : decode cX16_takeIn 38 = .ok (.iinc 2 1, 3) := by decide +kernel
theorem dX16_takeIn_41 : decode cX16_takeIn 41 = .ok (.goto (-29), 3) := by decide +kernel
theorem dX16_takeIn_44 : decode cX16_takeIn 44 = .ok (.return_, 1) := by decide +kernel
def b_X16_takeIn_12 (x1 x2 : Int) (V : VV) : Option ((Int × VV) ⊕ (VV)) :=
  if w32 x2 < w32 (w32 (V 156 138)) then
    (l2 187 184000 ((460 * x1) + x2) V).bind fun v1 =>
    (s2 271 460 x2 v1 V).bind fun V1 =>
    cnt (x2 + 1, V1)
  else
    xit (some V)
def l_X16_takeIn_12 (x1 x2 : Int) (V : VV) : Option (VV) := lpN (fun s : Int × VV => b_X16_takeIn_12 x1 s.1 s.2) FU (x2, V)
def f_X16_takeIn (x1 : Int) (V : VV) : Option (VV) :=
  (l2 186 400 x1 V).bind fun v1 =>
  (p2 138 v1 V).bind fun V1 =>
  l_X16_takeIn_12 x1 0 V1
theorem s_X16_takeIn_12 {g : GG} {d : Nat} (hD : 0 ≤ d) {x1 x2 : Int} {M : MM} (hM : LM M) {V : VV} {o : AV × MM} {P : ((Int × VV) ⊕ (VV)) → Prop} (c0 : ∀ s : Int × VV, P (.inl s) → Sem g d YX16_takeIn 12 [(1, 156), (0, x1), (0, s.1)] [] (wr M s.2) o) (r0 : ∀ r : VV, P (.inr r) → o = ((9, 0), (wr M r))) {z : (Int × VV) ⊕ (VV)} (h : b_X16_takeIn_12 x1 x2 V = some z) (hz : P z) : Sem g d YX16_takeIn 12 [(1, 156), (0, x1), (0, x2)] [] (wr M V) o := by
  delta b_X16_takeIn_12 at h
  refine S_iload_n (i := 2) dX16_takeIn_12 rfl rfl ?_
  refine S_aload_n (i := 0) dX16_takeIn_13 rfl rfl ?_
  refine P2_gfi hM FLX16_742 rfl dX16_takeIn_14 ?_
  refine P_icmp_ge (tgt := 44) dX16_takeIn_17 rfl h (fun h => ?_) (fun h => ?_)
  · obtain ⟨z0, h, hz⟩ := xit_some' (P := fun r => P r) h hz
    obtain rfl := r0 _ (some_P (P := fun r => P (.inr r)) h hz)
    exact S_return dX16_takeIn_44 rfl
  · refine S_aload_n (i := 0) dX16_takeIn_20 rfl rfl ?_
    refine P2_gfr hM (a := 271) FLX16_361 rfl ⟨rfl, rfl⟩ dX16_takeIn_21 ?_
    refine S_iload_n (i := 2) dX16_takeIn_24 rfl rfl ?_
    refine S_aload_n (i := 0) dX16_takeIn_25 rfl rfl ?_
    refine P2_gfr hM (a := 187) FLX16_104 rfl ⟨rfl, rfl⟩ dX16_takeIn_26 ?_
    refine S_sipush (z := 460) dX16_takeIn_29 rfl ?_
    refine S_iload_n (i := 1) dX16_takeIn_32 rfl rfl ?_
    refine S_imul dX16_takeIn_33 ?_
    refine S_iload_n (i := 2) dX16_takeIn_34 rfl rfl ?_
    refine S_iadd dX16_takeIn_35 ?_
    refine P2_lai hM (a := 187) (n := 184000) rfl dX16_takeIn_36 h (fun v1 h => ?_)
    refine P2_sai hM (a := 271) (n := 460) rfl dX16_takeIn_37 h (fun V1 h => ?_)
    refine S_iinc dX16_takeIn_38 rfl rfl rfl ?_
    change Sem g d YX16_takeIn 41 [(1, 156), (0, x1), (0, x2 + 1)] [] (wr M V1) o
    refine S_goto (tgt := 12) dX16_takeIn_41 rfl ?_
    exact c0 (x2 + 1, V1) (some_P (P := fun r => P r) h hz)
theorem sl_X16_takeIn_12 {g : GG} {d : Nat} (hD : 0 ≤ d) {x1 x2 : Int} {M : MM} (hM : LM M) {V : VV} {o : AV × MM} {P : (VV) → Prop} (r0 : ∀ r : VV, P r → o = ((9, 0), (wr M r))) {z : VV} (h : l_X16_takeIn_12 x1 x2 V = some z) (hz : P z) : Sem g d YX16_takeIn 12 [(1, 156), (0, x1), (0, x2)] [] (wr M V) o := by
  refine lp_sound (S := fun s : Int × VV => Sem g d YX16_takeIn 12 [(1, 156), (0, x1), (0, s.1)] [] (wr M s.2) o) (P := P) ?_ FU (x2, V) z h hz
  intro s x hx hP
  exact s_X16_takeIn_12 hD hM (P := Sum.elim (fun s : Int × VV => Sem g d YX16_takeIn 12 [(1, 156), (0, x1), (0, s.1)] [] (wr M s.2) o) P) (fun s h => h) (fun s h => r0 s h) hx hP
theorem s_X16_takeIn_0 {g : GG} {d : Nat} (hD : 0 ≤ d) {x1 : Int} {M : MM} (hM : LM M) {V : VV} {o : AV × MM} {P : (VV) → Prop} (r0 : ∀ r : VV, P r → o = ((9, 0), (wr M r))) {z : VV} (h : f_X16_takeIn x1 V = some z) (hz : P z) : Sem g d YX16_takeIn 0 [(1, 156), (0, x1), (9, 0)] [] (wr M V) o := by
  delta f_X16_takeIn at h
  refine S_aload_n (i := 0) dX16_takeIn_0 rfl rfl ?_
  refine S_aload_n (i := 0) dX16_takeIn_1 rfl rfl ?_
  refine P2_gfr hM (a := 186) FLX16_100 rfl ⟨rfl, rfl⟩ dX16_takeIn_2 ?_
  refine S_iload_n (i := 1) dX16_takeIn_5 rfl rfl ?_
  refine P2_lai hM (a := 186) (n := 400) rfl dX16_takeIn_6 h (fun v1 h => ?_)
  refine P2_pfi hM FLX16_742 FPX16_742 rfl dX16_takeIn_7 h (fun V1 h => ?_)
  refine S_iconst dX16_takeIn_10 rfl ?_
  refine S_istore_n (i := 2) dX16_takeIn_11 rfl (Nat.le_of_ble_eq_true rfl) rfl rfl ?_
  change Sem g d YX16_takeIn 12 [(1, 156), (0, x1), (0, 0)] [] (wr M V1) o
  exact sl_X16_takeIn_12 hD hM r0 h hz
theorem F_X16_takeIn {g : GG} {d : Nat} (hD : 0 ≤ d) {x1 : Int} {M : MM} (hM : LM M) {V : VV} {r : VV} (h : f_X16_takeIn x1 V = some r) : Sem g d YX16_takeIn 0 (ini YX16_takeIn [(1, 156), (0, x1)]) [] (wr M V) ((9, 0), (wr M r)) := by
  change Sem g d YX16_takeIn 0 [(1, 156), (0, x1), (9, 0)] [] (wr M V) ((9, 0), (wr M r))
  exact s_X16_takeIn_0 hD hM (P := fun x => x = r) (fun q e => by rw [e]) h rfl
/-! PeerSearchModel.tick()V -/
theorem dX16_tick_0 : decode cX16_tick 0 = .ok (.aload_n 0, 1) := by decide +kernel
theorem dX16_tick_1 : decode cX16_tick 1 = .ok (.dup, 1) := by decide +kernel
theorem dX16_tick_2 : decode cX16_tick 2 = .ok (.getfield 483, 3) := by decide +kernel
theorem dX16_tick_5 : decode cX16_tick 5 = .ok (.iconst 1, 1) := by decide +kernel
theorem dX16_tick_6 : decode cX16_tick 6 = .ok (.iadd, 1) := by decide +kernel
theorem dX16_tick_7 : decode cX16_tick 7 = .ok (.putfield 483, 3) := by decide +kernel
theorem dX16_tick_10 : decode cX16_tick 10 = .ok (.aload_n 0, 1) := by decide +kernel
theorem dX16_tick_11 : decode cX16_tick 11 = .ok (.invokevirtual 801, 3) := by decide +kernel
theorem dX16_tick_14 : decode cX16_tick 14 = .ok (.istore_n 1, 1) := by decide +kernel
theorem dX16_tick_15 : decode cX16_tick 15 = .ok (.iload_n 1, 1) := by decide +kernel
theorem dX16_tick_16 : decode cX16_tick 16 = .ok (.ifCond .lt 59, 3) := by decide +kernel
theorem dX16_tick_19 : decode cX16_tick 19 = .ok (.aload_n 0, 1) := by decide +kernel
theorem dX16_tick_20 : decode cX16_tick 20 = .ok (.getfield 91, 3) := by decide +kernel
theorem dX16_tick_23 : decode cX16_tick 23 = .ok (.iload_n 1, 1) := by decide +kernel
theorem dX16_tick_24 : decode cX16_tick 24 = .ok (.iaload, 1) := by decide +kernel
theorem dX16_tick_25 : decode cX16_tick 25 = .ok (.istore_n 2, 1) := by decide +kernel
theorem dX16_tick_26 : decode cX16_tick 26 = .ok (.aload_n 0, 1) := by decide +kernel
theorem dX16_tick_27 : decode cX16_tick 27 = .ok (.getfield 88, 3) := by decide +kernel
theorem dX16_tick_30 : decode cX16_tick 30 = .ok (.iload_n 1, 1) := by decide +kernel
theorem dX16_tick_31 : decode cX16_tick 31 = .ok (.iaload, 1) := by decide +kernel
theorem dX16_tick_32 : decode cX16_tick 32 = .ok (.istore_n 3, 1) := by decide +kernel
theorem dX16_tick_33 : decode cX16_tick 33 = .ok (.aload_n 0, 1) := by decide +kernel
theorem dX16_tick_34 : decode cX16_tick 34 = .ok (.iload_n 1, 1) := by decide +kernel
theorem dX16_tick_35 : decode cX16_tick 35 = .ok (.invokevirtual 804, 3) := by decide +kernel
theorem dX16_tick_38 : decode cX16_tick 38 = .ok (.aload_n 0, 1) := by decide +kernel
theorem dX16_tick_39 : decode cX16_tick 39 = .ok (.iload_n 1, 1) := by decide +kernel
theorem dX16_tick_40 : decode cX16_tick 40 = .ok (.invokevirtual 807, 3) := by decide +kernel
theorem dX16_tick_43 : decode cX16_tick 43 = .ok (.aload_n 0, 1) := by decide +kernel
theorem dX16_tick_44 : decode cX16_tick 44 = .ok (.iload_n 2, 1) := by decide +kernel
theorem dX16_tick_45 : decode cX16_tick 45 = .ok (.invokevirtual 729, 3) := by decide +kernel
theorem dX16_tick_48 : decode cX16_tick 48 = .ok (.ifCond .eq 19, 3) := by decide +kernel
theorem dX16_tick_51 : decode cX16_tick 51 = .ok (.aload_n 0, 1) := by decide +kernel
theorem dX16_tick_52 : decode cX16_tick 52 = .ok (.dup, 1) := by decide +kernel
theorem dX16_tick_53 : decode cX16_tick 53 = .ok (.getfield 810, 3) := by decide +kernel
theorem dX16_tick_56 : decode cX16_tick 56 = .ok (.iconst 1, 1) := by decide +kernel
theorem dX16_tick_57 : decode cX16_tick 57 = .ok (.iadd, 1) := by decide +kernel
theorem dX16_tick_58 : decode cX16_tick 58 = .ok (.putfield 810, 3) := by decide +kernel
theorem dX16_tick_61 : decode cX16_tick 61 = .ok (.aload_n 0, 1) := by decide +kernel
theorem dX16_tick_62 : decode cX16_tick 62 = .ok (.iload_n 2, 1) := by decide +kernel
theorem dX16_tick_63 : decode cX16_tick 63 = .ok (.iload_n 3, 1) := by decide +kernel
theorem dX16_tick_64 : decode cX16_tick 64 = .ok (.invokevirtual 813, 3) := by decide +kernel
theorem dX16_tick_67 : decode cX16_tick 67 = .ok (.aload_n 0, 1) := by decide +kernel
theorem dX16_tick_68 : decode cX16_tick 68 = .ok (.invokevirtual 801, 3) := by decide +kernel
theorem dX16_tick_71 : decode cX16_tick 71 = .ok (.istore_n 1, 1) := by decide +kernel
theorem dX16_tick_72 : decode cX16_tick 72 = .ok (.goto (-57), 3) := by decide +kernel
theorem dX16_tick_75 : decode cX16_tick 75 = .ok (.iconst 0, 1) := by decide +kernel
theorem dX16_tick_76 : decode cX16_tick 76 = .ok (.istore_n 2, 1) := by decide +kernel
theorem dX16_tick_77 : decode cX16_tick 77 = .ok (.iload_n 2, 1) := by decide +kernel
theorem dX16_tick_78 : decode cX16_tick 78 = .ok (.aload_n 0, 1) := by decide +kernel
theorem dX16_tick_79 : decode cX16_tick 79 = .ok (.getfield 424, 3) := by decide +kernel
theorem dX16_tick_82 : decode cX16_tick 82 = .ok (.if_icmp .ge 34, 3) := by decide +kernel
theorem dX16_tick_85 : decode cX16_tick 85 = .ok (.aload_n 0, 1) := by decide +kernel
theorem dX16_tick_86 : decode cX16_tick 86 = .ok (.getfield 42, 3) := by decide +kernel
theorem dX16_tick_89 : decode cX16_tick 89 = .ok (.iload_n 2, 1) := by decide +kernel
theorem dX16_tick_90 : decode cX16_tick 90 = .ok (.iaload, 1) := by decide +kernel
theorem dX16_tick_91 : decode cX16_tick 91 = .ok (.iconst 1, 1) := by decide +kernel
theorem dX16_tick_92 : decode cX16_tick 92 = .ok (.if_icmp .ne 18, 3) := by decide +kernel
theorem dX16_tick_95 : decode cX16_tick 95 = .ok (.aload_n 0, 1) := by decide +kernel
theorem dX16_tick_96 : decode cX16_tick 96 = .ok (.iload_n 2, 1) := by decide +kernel
theorem dX16_tick_97 : decode cX16_tick 97 = .ok (.invokevirtual 816, 3) := by decide +kernel
theorem dX16_tick_100 : decode cX16_tick 100 = .ok (.aload_n 0, 1) := by decide +kernel
theorem dX16_tick_101 : decode cX16_tick 101 = .ok (.iload_n 2, 1) := by decide +kernel
theorem dX16_tick_102 : decode cX16_tick 102 = .ok (.invokevirtual 819, 3) := by decide +kernel
theorem dX16_tick_105 : decode cX16_tick 105 = .ok (.aload_n 0, 1) := by decide +kernel
theorem dX16_tick_106 : decode cX16_tick 106 = .ok (.iload_n 2, 1) := by decide +kernel
theorem dX16_tick_107 : decode cX16_tick 107 = .ok (.invokevirtual 822, 3) := by decide +kernel
theorem dX16_tick_110 : decode cX16_tick 110 = .ok (.iinc 2 1, 3) := by decide +kernel
theorem dX16_tick_113 : decode cX16_tick 113 = .ok (.goto (-36), 3) := by decide +kernel
theorem dX16_tick_116 : decode cX16_tick 116 = .ok (.return_, 1) := by decide +kernel
def j_X16_tick_110 (x2 : Int) (V : VV) : Option ((Int × VV) ⊕ (VV)) :=
  cnt (x2 + 1, V)
def b_X16_tick_77 (x2 : Int) (V : VV) : Option ((Int × VV) ⊕ (VV)) :=
  if w32 x2 < w32 (w32 (V 156 13)) then
    (l2 167 32 x2 V).bind fun v1 =>
    if w32 v1 = w32 1 then
      (f_X16_runOut x2 V).bind fun V1 =>
      (f_X16_expire x2 V1).bind fun V2 =>
      (f_X16_background x2 V2).bind fun V3 =>
      j_X16_tick_110 x2 V3
    else
      j_X16_tick_110 x2 V
  else
    xit (some V)
def l_X16_tick_77 (x2 : Int) (V : VV) : Option (VV) := lpN (fun s : Int × VV => b_X16_tick_77 s.1 s.2) FU (x2, V)
def j_X16_tick_75 (V : VV) : Option (VV) :=
  l_X16_tick_77 0 V
def j_X16_tick_67 (V : VV) : Option ((Int × VV) ⊕ (VV)) :=
  (f_X16_nextDue V).bind fun v1 =>
  cnt (v1, V)
def b_X16_tick_15 (x1 : Int) (V : VV) : Option ((Int × VV) ⊕ (VV)) :=
  if w32 x1 < 0 then
    xit (j_X16_tick_75 V)
  else
    (l2 183 400 x1 V).bind fun v1 =>
    (l2 182 400 x1 V).bind fun v2 =>
    (f_X16_takeIn x1 V).bind fun V1 =>
    (f_X16_land x1 V1).bind fun V2 =>
    (f_X16_lives v1 V2).bind fun v3 =>
    if w32 v3 = 0 then
      j_X16_tick_67 V2
    else
      (p2 142 ((w32 (V2 156 142)) + 1) V2).bind fun V3 =>
      (f_X16_deliver v1 v2 V3).bind fun V4 =>
      j_X16_tick_67 V4
def l_X16_tick_15 (x1 : Int) (V : VV) : Option (VV) := lpN (fun s : Int × VV => b_X16_tick_15 s.1 s.2) FU (x1, V)
def f_X16_tick (V : VV) : Option (VV) :=
  (p2 11 ((w32 (V 156 11)) + 1) V).bind fun V1 =>
  (f_X16_nextDue V1).bind fun v1 =>
  l_X16_tick_15 v1 V1
theorem s_X16_tick_110 {g : GG} {d : Nat} (hD : 11 ≤ d) {x2 : Int} {M : MM} (hM : LM M) {V : VV} {o : AV × MM} {P : ((Int × VV) ⊕ (VV)) → Prop} (c0 : ∀ s : Int × VV, P (.inl s) → Sem g d YX16_tick 77 [(1, 156), (9, 0), (0, s.1), (9, 0)] [] (wr M s.2) o) (r0 : ∀ r : VV, P (.inr r) → o = ((9, 0), (wr M r))) {z : (Int × VV) ⊕ (VV)} (h : j_X16_tick_110 x2 V = some z) (hz : P z) : Sem g d YX16_tick 110 [(1, 156), (9, 0), (0, x2), (9, 0)] [] (wr M V) o := by
  delta j_X16_tick_110 at h
  refine S_iinc dX16_tick_110 rfl rfl rfl ?_
  change Sem g d YX16_tick 113 [(1, 156), (9, 0), (0, x2 + 1), (9, 0)] [] (wr M V) o
  refine S_goto (tgt := 77) dX16_tick_113 rfl ?_
  exact c0 (x2 + 1, V) (some_P (P := fun r => P r) h hz)
theorem s_X16_tick_77 {g : GG} {d : Nat} (hD : 11 ≤ d) {x2 : Int} {M : MM} (hM : LM M) {V : VV} {o : AV × MM} {P : ((Int × VV) ⊕ (VV)) → Prop} (c0 : ∀ s : Int × VV, P (.inl s) → Sem g d YX16_tick 77 [(1, 156), (9, 0), (0, s.1), (9, 0)] [] (wr M s.2) o) (r0 : ∀ r : VV, P (.inr r) → o = ((9, 0), (wr M r))) {z : (Int × VV) ⊕ (VV)} (h : b_X16_tick_77 x2 V = some z) (hz : P z) : Sem g d YX16_tick 77 [(1, 156), (9, 0), (0, x2), (9, 0)] [] (wr M V) o := by
  delta b_X16_tick_77 at h
  refine S_iload_n (i := 2) dX16_tick_77 rfl rfl ?_
  refine S_aload_n (i := 0) dX16_tick_78 rfl rfl ?_
  refine P2_gfi hM FLX16_424 rfl dX16_tick_79 ?_
  refine P_icmp_ge (tgt := 116) dX16_tick_82 rfl h (fun h => ?_) (fun h => ?_)
  · obtain ⟨z0, h, hz⟩ := xit_some' (P := fun r => P r) h hz
    obtain rfl := r0 _ (some_P (P := fun r => P (.inr r)) h hz)
    exact S_return dX16_tick_116 rfl
  · refine S_aload_n (i := 0) dX16_tick_85 rfl rfl ?_
    refine P2_gfr hM (a := 167) FLX16_42 rfl ⟨rfl, rfl⟩ dX16_tick_86 ?_
    refine S_iload_n (i := 2) dX16_tick_89 rfl rfl ?_
    refine P2_lai hM (a := 167) (n := 32) rfl dX16_tick_90 h (fun v1 h => ?_)
    refine S_iconst dX16_tick_91 rfl ?_
    refine P_icmp_ne (tgt := 110) dX16_tick_92 rfl h (fun h => ?_) (fun h => ?_)
    · exact s_X16_tick_110 hD hM c0 r0 h hz
    · refine S_aload_n (i := 0) dX16_tick_95 rfl rfl ?_
      refine S_iload_n (i := 2) dX16_tick_96 rfl rfl ?_
      refine P2_invVm hM [(0, x2)] [] CVX16_runOut MLX16_816 dX16_tick_97 rfl rfl rfl rfl (by omega) h (fun r h => F_X16_runOut (by omega) hM h) (fun V1 h => ?_)
      refine S_aload_n (i := 0) dX16_tick_100 rfl rfl ?_
      refine S_iload_n (i := 2) dX16_tick_101 rfl rfl ?_
      refine P2_invVm hM [(0, x2)] [] CVX16_expire MLX16_819 dX16_tick_102 rfl rfl rfl rfl (by omega) h (fun r h => F_X16_expire (by omega) hM h) (fun V2 h => ?_)
      refine S_aload_n (i := 0) dX16_tick_105 rfl rfl ?_
      refine S_iload_n (i := 2) dX16_tick_106 rfl rfl ?_
      refine P2_invVm hM [(0, x2)] [] CVX16_background MLX16_822 dX16_tick_107 rfl rfl rfl rfl (by omega) h (fun r h => F_X16_background (by omega) hM h) (fun V3 h => ?_)
      exact s_X16_tick_110 hD hM c0 r0 h hz
theorem sl_X16_tick_77 {g : GG} {d : Nat} (hD : 11 ≤ d) {x2 : Int} {M : MM} (hM : LM M) {V : VV} {o : AV × MM} {P : (VV) → Prop} (r0 : ∀ r : VV, P r → o = ((9, 0), (wr M r))) {z : VV} (h : l_X16_tick_77 x2 V = some z) (hz : P z) : Sem g d YX16_tick 77 [(1, 156), (9, 0), (0, x2), (9, 0)] [] (wr M V) o := by
  refine lp_sound (S := fun s : Int × VV => Sem g d YX16_tick 77 [(1, 156), (9, 0), (0, s.1), (9, 0)] [] (wr M s.2) o) (P := P) ?_ FU (x2, V) z h hz
  intro s x hx hP
  exact s_X16_tick_77 hD hM (P := Sum.elim (fun s : Int × VV => Sem g d YX16_tick 77 [(1, 156), (9, 0), (0, s.1), (9, 0)] [] (wr M s.2) o) P) (fun s h => h) (fun s h => r0 s h) hx hP
theorem s_X16_tick_75 {g : GG} {d : Nat} (hD : 11 ≤ d) {M : MM} (hM : LM M) {V : VV} {o : AV × MM} {P : (VV) → Prop} (r0 : ∀ r : VV, P r → o = ((9, 0), (wr M r))) {z : VV} (h : j_X16_tick_75 V = some z) (hz : P z) : Sem g d YX16_tick 75 [(1, 156), (9, 0), (9, 0), (9, 0)] [] (wr M V) o := by
  delta j_X16_tick_75 at h
  refine S_iconst dX16_tick_75 rfl ?_
  refine S_istore_n (i := 2) dX16_tick_76 rfl (Nat.le_of_ble_eq_true rfl) rfl rfl ?_
  change Sem g d YX16_tick 77 [(1, 156), (9, 0), (0, 0), (9, 0)] [] (wr M V) o
  exact sl_X16_tick_77 hD hM r0 h hz
theorem s_X16_tick_67 {g : GG} {d : Nat} (hD : 11 ≤ d) {M : MM} (hM : LM M) {V : VV} {o : AV × MM} {P : ((Int × VV) ⊕ (VV)) → Prop} (c0 : ∀ s : Int × VV, P (.inl s) → Sem g d YX16_tick 15 [(1, 156), (0, s.1), (9, 0), (9, 0)] [] (wr M s.2) o) (r0 : ∀ r : VV, P (.inr r) → o = ((9, 0), (wr M r))) {z : (Int × VV) ⊕ (VV)} (h : j_X16_tick_67 V = some z) (hz : P z) : Sem g d YX16_tick 67 [(1, 156), (9, 0), (9, 0), (9, 0)] [] (wr M V) o := by
  delta j_X16_tick_67 at h
  refine S_aload_n (i := 0) dX16_tick_67 rfl rfl ?_
  refine P2_invVp hM 0 [] [] CVX16_nextDue MLX16_801 dX16_tick_68 rfl rfl rfl rfl rfl (by omega) h (fun r h => F_X16_nextDue (by omega) hM h) (fun v1 h => ?_)
  refine S_istore_n (i := 1) dX16_tick_71 rfl (Nat.le_of_ble_eq_true rfl) rfl rfl ?_
  change Sem g d YX16_tick 72 [(1, 156), (0, v1), (9, 0), (9, 0)] [] (wr M V) o
  refine S_goto (tgt := 15) dX16_tick_72 rfl ?_
  exact c0 (v1, V) (some_P (P := fun r => P r) h hz)
theorem s_X16_tick_15 {g : GG} {d : Nat} (hD : 11 ≤ d) {x1 : Int} {M : MM} (hM : LM M) {V : VV} {o : AV × MM} {P : ((Int × VV) ⊕ (VV)) → Prop} (c0 : ∀ s : Int × VV, P (.inl s) → Sem g d YX16_tick 15 [(1, 156), (0, s.1), (9, 0), (9, 0)] [] (wr M s.2) o) (r0 : ∀ r : VV, P (.inr r) → o = ((9, 0), (wr M r))) {z : (Int × VV) ⊕ (VV)} (h : b_X16_tick_15 x1 V = some z) (hz : P z) : Sem g d YX16_tick 15 [(1, 156), (0, x1), (9, 0), (9, 0)] [] (wr M V) o := by
  delta b_X16_tick_15 at h
  refine S_iload_n (i := 1) dX16_tick_15 rfl rfl ?_
  refine P_if_lt (tgt := 75) dX16_tick_16 rfl h (fun h => ?_) (fun h => ?_)
  · refine S_weak (ls' := [(1, 156), (9, 0), (9, 0), (9, 0)]) ⟨Or.inr rfl, ⟨Or.inl rfl, ⟨Or.inl rfl, ⟨Or.inl rfl, trivial⟩⟩⟩⟩ ?_
    obtain ⟨z0, h, hz⟩ := xit_some' (P := fun r => P r) h hz
    exact s_X16_tick_75 hD hM (P := fun r => P (.inr r)) r0 h hz
  · refine S_aload_n (i := 0) dX16_tick_19 rfl rfl ?_
    refine P2_gfr hM (a := 183) FLX16_91 rfl ⟨rfl, rfl⟩ dX16_tick_20 ?_
    refine S_iload_n (i := 1) dX16_tick_23 rfl rfl ?_
    refine P2_lai hM (a := 183) (n := 400) rfl dX16_tick_24 h (fun v1 h => ?_)
    refine S_istore_n (i := 2) dX16_tick_25 rfl (Nat.le_of_ble_eq_true rfl) rfl rfl ?_
    change Sem g d YX16_tick 26 [(1, 156), (0, x1), (0, v1), (9, 0)] [] (wr M V) o
    refine S_aload_n (i := 0) dX16_tick_26 rfl rfl ?_
    refine P2_gfr hM (a := 182) FLX16_88 rfl ⟨rfl, rfl⟩ dX16_tick_27 ?_
    refine S_iload_n (i := 1) dX16_tick_30 rfl rfl ?_
    refine P2_lai hM (a := 182) (n := 400) rfl dX16_tick_31 h (fun v2 h => ?_)
    refine S_istore_n (i := 3) dX16_tick_32 rfl (Nat.le_of_ble_eq_true rfl) rfl rfl ?_
    change Sem g d YX16_tick 33 [(1, 156), (0, x1), (0, v1), (0, v2)] [] (wr M V) o
    refine S_aload_n (i := 0) dX16_tick_33 rfl rfl ?_
    refine S_iload_n (i := 1) dX16_tick_34 rfl rfl ?_
    refine P2_invVm hM [(0, x1)] [] CVX16_takeIn MLX16_804 dX16_tick_35 rfl rfl rfl rfl (by omega) h (fun r h => F_X16_takeIn (by omega) hM h) (fun V1 h => ?_)
    refine S_aload_n (i := 0) dX16_tick_38 rfl rfl ?_
    refine S_iload_n (i := 1) dX16_tick_39 rfl rfl ?_
    refine P2_invVm hM [(0, x1)] [] CVX16_land MLX16_807 dX16_tick_40 rfl rfl rfl rfl (by omega) h (fun r h => F_X16_land (by omega) hM h) (fun V2 h => ?_)
    refine S_aload_n (i := 0) dX16_tick_43 rfl rfl ?_
    refine S_iload_n (i := 2) dX16_tick_44 rfl rfl ?_
    refine P2_invVp hM 0 [(0, v1)] [] CVX16_lives MLX16_729 dX16_tick_45 rfl rfl rfl rfl rfl (by omega) h (fun r h => F_X16_lives (by omega) hM h) (fun v3 h => ?_)
    refine P_if_eq (tgt := 67) dX16_tick_48 rfl h (fun h => ?_) (fun h => ?_)
    · refine S_weak (ls' := [(1, 156), (9, 0), (9, 0), (9, 0)]) ⟨Or.inr rfl, ⟨Or.inl rfl, ⟨Or.inl rfl, ⟨Or.inl rfl, trivial⟩⟩⟩⟩ ?_
      exact s_X16_tick_67 hD hM c0 r0 h hz
    · refine S_aload_n (i := 0) dX16_tick_51 rfl rfl ?_
      refine S_dup dX16_tick_52 (Nat.le_of_ble_eq_true rfl) ?_
      refine P2_gfi hM FLX16_810 rfl dX16_tick_53 ?_
      refine S_iconst dX16_tick_56 rfl ?_
      refine S_iadd dX16_tick_57 ?_
      refine P2_pfi hM FLX16_810 FPX16_810 rfl dX16_tick_58 h (fun V3 h => ?_)
      refine S_aload_n (i := 0) dX16_tick_61 rfl rfl ?_
      refine S_iload_n (i := 2) dX16_tick_62 rfl rfl ?_
      refine S_iload_n (i := 3) dX16_tick_63 rfl rfl ?_
      refine P2_invVm hM [(0, v1), (0, v2)] [] CVX16_deliver MLX16_813 dX16_tick_64 rfl rfl rfl rfl (by omega) h (fun r h => F_X16_deliver (by omega) hM h) (fun V4 h => ?_)
      refine S_weak (ls' := [(1, 156), (9, 0), (9, 0), (9, 0)]) ⟨Or.inr rfl, ⟨Or.inl rfl, ⟨Or.inl rfl, ⟨Or.inl rfl, trivial⟩⟩⟩⟩ ?_
      exact s_X16_tick_67 hD hM c0 r0 h hz
theorem sl_X16_tick_15 {g : GG} {d : Nat} (hD : 11 ≤ d) {x1 : Int} {M : MM} (hM : LM M) {V : VV} {o : AV × MM} {P : (VV) → Prop} (r0 : ∀ r : VV, P r → o = ((9, 0), (wr M r))) {z : VV} (h : l_X16_tick_15 x1 V = some z) (hz : P z) : Sem g d YX16_tick 15 [(1, 156), (0, x1), (9, 0), (9, 0)] [] (wr M V) o := by
  refine lp_sound (S := fun s : Int × VV => Sem g d YX16_tick 15 [(1, 156), (0, s.1), (9, 0), (9, 0)] [] (wr M s.2) o) (P := P) ?_ FU (x1, V) z h hz
  intro s x hx hP
  exact s_X16_tick_15 hD hM (P := Sum.elim (fun s : Int × VV => Sem g d YX16_tick 15 [(1, 156), (0, s.1), (9, 0), (9, 0)] [] (wr M s.2) o) P) (fun s h => h) (fun s h => r0 s h) hx hP
theorem s_X16_tick_0 {g : GG} {d : Nat} (hD : 11 ≤ d) {M : MM} (hM : LM M) {V : VV} {o : AV × MM} {P : (VV) → Prop} (r0 : ∀ r : VV, P r → o = ((9, 0), (wr M r))) {z : VV} (h : f_X16_tick V = some z) (hz : P z) : Sem g d YX16_tick 0 [(1, 156), (9, 0), (9, 0), (9, 0)] [] (wr M V) o := by
  delta f_X16_tick at h
  refine S_aload_n (i := 0) dX16_tick_0 rfl rfl ?_
  refine S_dup dX16_tick_1 (Nat.le_of_ble_eq_true rfl) ?_
  refine P2_gfi hM FLX16_483 rfl dX16_tick_2 ?_
  refine S_iconst dX16_tick_5 rfl ?_
  refine S_iadd dX16_tick_6 ?_
  refine P2_pfi hM FLX16_483 FPX16_483 rfl dX16_tick_7 h (fun V1 h => ?_)
  refine S_aload_n (i := 0) dX16_tick_10 rfl rfl ?_
  refine P2_invVp hM 0 [] [] CVX16_nextDue MLX16_801 dX16_tick_11 rfl rfl rfl rfl rfl (by omega) h (fun r h => F_X16_nextDue (by omega) hM h) (fun v1 h => ?_)
  refine S_istore_n (i := 1) dX16_tick_14 rfl (Nat.le_of_ble_eq_true rfl) rfl rfl ?_
  change Sem g d YX16_tick 15 [(1, 156), (0, v1), (9, 0), (9, 0)] [] (wr M V1) o
  exact sl_X16_tick_15 hD hM r0 h hz
theorem F_X16_tick {g : GG} {d : Nat} (hD : 11 ≤ d) {M : MM} (hM : LM M) {V : VV} {r : VV} (h : f_X16_tick V = some r) : Sem g d YX16_tick 0 (ini YX16_tick [(1, 156)]) [] (wr M V) ((9, 0), (wr M r)) := by
  change Sem g d YX16_tick 0 [(1, 156), (9, 0), (9, 0), (9, 0)] [] (wr M V) ((9, 0), (wr M r))
  exact s_X16_tick_0 hD hM (P := fun x => x = r) (fun q e => by rw [e]) h rfl
/-! PeerSearchModel.rest(I)I -/
theorem dX16_rest_0 : decode cX16_rest 0 = .ok (.iload_n 1, 1) := by decide +kernel
theorem dX16_rest_1 : decode cX16_rest 1 = .ok (.ifCond .lt 10, 3) := by decide +kernel
theorem dX16_rest_4 : decode cX16_rest 4 = .ok (.iload_n 1, 1) := by decide +kernel
theorem dX16_rest_5 : decode cX16_rest 5 = .ok (.sipush 1000, 3) := by decide +kernel
theorem dX16_rest_8 : decode cX16_rest 8 = .ok (.if_icmp .le 5, 3) := by decide +kernel
theorem dX16_rest_11 : decode cX16_rest 11 = .ok (.iconst (-1), 1) := by decide +kernel
theorem dX16_rest_12 : decode cX16_rest 12 = .ok (.ireturn, 1) := by decide +kernel
theorem dX16_rest_13 : decode cX16_rest 13 = .ok (.iconst 0, 1) := by decide +kernel
theorem dX16_rest_14 : decode cX16_rest 14 = .ok (.istore_n 2, 1) := by decide +kernel
theorem dX16_rest_15 : decode cX16_rest 15 = .ok (.iload_n 2, 1) := by decide +kernel
theorem dX16_rest_16 : decode cX16_rest 16 = .ok (.iload_n 1, 1) := by decide +kernel
theorem dX16_rest_17 : decode cX16_rest 17 = .ok (.if_icmp .ge 27, 3) := by decide +kernel
theorem dX16_rest_20 : decode cX16_rest 20 = .ok (.aload_n 0, 1) := by decide +kernel
theorem dX16_rest_21 : decode cX16_rest 21 = .ok (.getfield 464, 3) := by decide +kernel
theorem dX16_rest_24 : decode cX16_rest 24 = .ok (.ifCond .gt 10, 3) := by decide +kernel
theorem dX16_rest_27 : decode cX16_rest 27 = .ok (.aload_n 0, 1) := by decide +kernel
theorem dX16_rest_28 : decode cX16_rest 28 = .ok (.invokevirtual 828, 3) := by decide +kernel
theorem dX16_rest_31 : decode cX16_rest 31 = .ok (.ifCond .le 13, 3) := by decide +kernel
theorem dX16_rest_34 : decode cX16_rest 34 = .ok (.aload_n 0, 1) := by decide +kernel
theorem dX16_rest_35 : decode cX16_rest 35 = .ok (.invokevirtual 825, 3) := by decide +kernel
theorem dX16_rest_38 : decode cX16_rest 38 = .ok (.iinc 2 1, 3) := by decide +kernel
theorem dX16_rest_41 : decode cX16_rest 41 = .ok (.goto (-26), 3) := by decide +kernel
theorem dX16_rest_44 : decode cX16_rest 44 = .ok (.iload_n 2, 1) := by decide +kernel
theorem dX16_rest_45 : decode cX16_rest 45 = .ok (.ireturn, 1) := by decide +kernel
def j_X16_rest_44 (x2 : Int) (V : VV) : Option (Int × VV) :=
  some (x2, V)
def j_X16_rest_34 (x1 x2 : Int) (V : VV) : Option ((Int × VV) ⊕ (Int × VV)) :=
  (f_X16_tick V).bind fun V1 =>
  cnt (x2 + 1, V1)
def b_X16_rest_15 (x1 x2 : Int) (V : VV) : Option ((Int × VV) ⊕ (Int × VV)) :=
  if w32 x2 < w32 x1 then
    if 0 < w32 (w32 (V 156 32)) then
      j_X16_rest_34 x1 x2 V
    else
      (f_X16_going V).bind fun v1 =>
      if 0 < w32 v1 then
        j_X16_rest_34 x1 x2 V
      else
        xit (j_X16_rest_44 x2 V)
  else
    xit (j_X16_rest_44 x2 V)
def l_X16_rest_15 (x1 x2 : Int) (V : VV) : Option (Int × VV) := lpN (fun s : Int × VV => b_X16_rest_15 x1 s.1 s.2) FU (x2, V)
def j_X16_rest_11 (V : VV) : Option (Int × VV) :=
  some ((-1), V)
def f_X16_rest (x1 : Int) (V : VV) : Option (Int × VV) :=
  if w32 x1 < 0 then
    j_X16_rest_11 V
  else
    if w32 1000 < w32 x1 then
      j_X16_rest_11 V
    else
      l_X16_rest_15 x1 0 V
theorem s_X16_rest_44 {g : GG} {d : Nat} (hD : 12 ≤ d) {x2 : Int} {M : MM} (hM : LM M) {V : VV} {o : AV × MM} {P : (Int × VV) → Prop} (r0 : ∀ r : Int × VV, P r → o = ((0, r.1), (wr M r.2))) {z : Int × VV} (h : j_X16_rest_44 x2 V = some z) (hz : P z) : Sem g d YX16_rest 44 [(9, 0), (9, 0), (0, x2)] [] (wr M V) o := by
  delta j_X16_rest_44 at h
  refine S_iload_n (i := 2) dX16_rest_44 rfl rfl ?_
  obtain rfl := r0 _ (some_P (P := fun r => P r) h hz)
  exact P_ret dX16_rest_45 rfl (Or.inl rfl)
theorem s_X16_rest_34 {g : GG} {d : Nat} (hD : 12 ≤ d) {x1 x2 : Int} {M : MM} (hM : LM M) {V : VV} {o : AV × MM} {P : ((Int × VV) ⊕ (Int × VV)) → Prop} (c0 : ∀ s : Int × VV, P (.inl s) → Sem g d YX16_rest 15 [(1, 156), (0, x1), (0, s.1)] [] (wr M s.2) o) (r0 : ∀ r : Int × VV, P (.inr r) → o = ((0, r.1), (wr M r.2))) {z : (Int × VV) ⊕ (Int × VV)} (h : j_X16_rest_34 x1 x2 V = some z) (hz : P z) : Sem g d YX16_rest 34 [(1, 156), (0, x1), (0, x2)] [] (wr M V) o := by
  delta j_X16_rest_34 at h
  refine S_aload_n (i := 0) dX16_rest_34 rfl rfl ?_
  refine P2_invVm hM [] [] CVX16_tick MLX16_825 dX16_rest_35 rfl rfl rfl rfl (by omega) h (fun r h => F_X16_tick (by omega) hM h) (fun V1 h => ?_)
  refine S_iinc dX16_rest_38 rfl rfl rfl ?_
  change Sem g d YX16_rest 41 [(1, 156), (0, x1), (0, x2 + 1)] [] (wr M V1) o
  refine S_goto (tgt := 15) dX16_rest_41 rfl ?_
  exact c0 (x2 + 1, V1) (some_P (P := fun r => P r) h hz)
theorem s_X16_rest_15 {g : GG} {d : Nat} (hD : 12 ≤ d) {x1 x2 : Int} {M : MM} (hM : LM M) {V : VV} {o : AV × MM} {P : ((Int × VV) ⊕ (Int × VV)) → Prop} (c0 : ∀ s : Int × VV, P (.inl s) → Sem g d YX16_rest 15 [(1, 156), (0, x1), (0, s.1)] [] (wr M s.2) o) (r0 : ∀ r : Int × VV, P (.inr r) → o = ((0, r.1), (wr M r.2))) {z : (Int × VV) ⊕ (Int × VV)} (h : b_X16_rest_15 x1 x2 V = some z) (hz : P z) : Sem g d YX16_rest 15 [(1, 156), (0, x1), (0, x2)] [] (wr M V) o := by
  delta b_X16_rest_15 at h
  refine S_iload_n (i := 2) dX16_rest_15 rfl rfl ?_
  refine S_iload_n (i := 1) dX16_rest_16 rfl rfl ?_
  refine P_icmp_ge (tgt := 44) dX16_rest_17 rfl h (fun h => ?_) (fun h => ?_)
  · refine S_weak (ls' := [(9, 0), (9, 0), (0, x2)]) ⟨Or.inl rfl, ⟨Or.inl rfl, ⟨Or.inr rfl, trivial⟩⟩⟩ ?_
    obtain ⟨z0, h, hz⟩ := xit_some' (P := fun r => P r) h hz
    exact s_X16_rest_44 hD hM (P := fun r => P (.inr r)) r0 h hz
  · refine S_aload_n (i := 0) dX16_rest_20 rfl rfl ?_
    refine P2_gfi hM FLX16_464 rfl dX16_rest_21 ?_
    refine P_if_gt (tgt := 34) dX16_rest_24 rfl h (fun h => ?_) (fun h => ?_)
    · exact s_X16_rest_34 hD hM c0 r0 h hz
    · refine S_aload_n (i := 0) dX16_rest_27 rfl rfl ?_
      refine P2_invVp hM 0 [] [] CVX16_going MLX16_828 dX16_rest_28 rfl rfl rfl rfl rfl (by omega) h (fun r h => F_X16_going (by omega) hM h) (fun v1 h => ?_)
      refine P_if_le (tgt := 44) dX16_rest_31 rfl h (fun h => ?_) (fun h => ?_)
      · refine S_weak (ls' := [(9, 0), (9, 0), (0, x2)]) ⟨Or.inl rfl, ⟨Or.inl rfl, ⟨Or.inr rfl, trivial⟩⟩⟩ ?_
        obtain ⟨z0, h, hz⟩ := xit_some' (P := fun r => P r) h hz
        exact s_X16_rest_44 hD hM (P := fun r => P (.inr r)) r0 h hz
      · exact s_X16_rest_34 hD hM c0 r0 h hz
theorem sl_X16_rest_15 {g : GG} {d : Nat} (hD : 12 ≤ d) {x1 x2 : Int} {M : MM} (hM : LM M) {V : VV} {o : AV × MM} {P : (Int × VV) → Prop} (r0 : ∀ r : Int × VV, P r → o = ((0, r.1), (wr M r.2))) {z : Int × VV} (h : l_X16_rest_15 x1 x2 V = some z) (hz : P z) : Sem g d YX16_rest 15 [(1, 156), (0, x1), (0, x2)] [] (wr M V) o := by
  refine lp_sound (S := fun s : Int × VV => Sem g d YX16_rest 15 [(1, 156), (0, x1), (0, s.1)] [] (wr M s.2) o) (P := P) ?_ FU (x2, V) z h hz
  intro s x hx hP
  exact s_X16_rest_15 hD hM (P := Sum.elim (fun s : Int × VV => Sem g d YX16_rest 15 [(1, 156), (0, x1), (0, s.1)] [] (wr M s.2) o) P) (fun s h => h) (fun s h => r0 s h) hx hP
theorem s_X16_rest_11 {g : GG} {d : Nat} (hD : 12 ≤ d) {M : MM} (hM : LM M) {V : VV} {o : AV × MM} {P : (Int × VV) → Prop} (r0 : ∀ r : Int × VV, P r → o = ((0, r.1), (wr M r.2))) {z : Int × VV} (h : j_X16_rest_11 V = some z) (hz : P z) : Sem g d YX16_rest 11 [(9, 0), (9, 0), (9, 0)] [] (wr M V) o := by
  delta j_X16_rest_11 at h
  refine S_iconst dX16_rest_11 rfl ?_
  obtain rfl := r0 _ (some_P (P := fun r => P r) h hz)
  exact P_ret dX16_rest_12 rfl (Or.inl rfl)
theorem s_X16_rest_0 {g : GG} {d : Nat} (hD : 12 ≤ d) {x1 : Int} {M : MM} (hM : LM M) {V : VV} {o : AV × MM} {P : (Int × VV) → Prop} (r0 : ∀ r : Int × VV, P r → o = ((0, r.1), (wr M r.2))) {z : Int × VV} (h : f_X16_rest x1 V = some z) (hz : P z) : Sem g d YX16_rest 0 [(1, 156), (0, x1), (9, 0)] [] (wr M V) o := by
  delta f_X16_rest at h
  refine S_iload_n (i := 1) dX16_rest_0 rfl rfl ?_
  refine P_if_lt (tgt := 11) dX16_rest_1 rfl h (fun h => ?_) (fun h => ?_)
  · refine S_weak (ls' := [(9, 0), (9, 0), (9, 0)]) ⟨Or.inl rfl, ⟨Or.inl rfl, ⟨Or.inl rfl, trivial⟩⟩⟩ ?_
    exact s_X16_rest_11 hD hM r0 h hz
  · refine S_iload_n (i := 1) dX16_rest_4 rfl rfl ?_
    refine S_sipush (z := 1000) dX16_rest_5 rfl ?_
    refine P_icmp_le (tgt := 13) dX16_rest_8 rfl h (fun h => ?_) (fun h => ?_)
    · refine S_iconst dX16_rest_13 rfl ?_
      refine S_istore_n (i := 2) dX16_rest_14 rfl (Nat.le_of_ble_eq_true rfl) rfl rfl ?_
      change Sem g d YX16_rest 15 [(1, 156), (0, x1), (0, 0)] [] (wr M V) o
      exact sl_X16_rest_15 hD hM r0 h hz
    · refine S_weak (ls' := [(9, 0), (9, 0), (9, 0)]) ⟨Or.inl rfl, ⟨Or.inl rfl, ⟨Or.inl rfl, trivial⟩⟩⟩ ?_
      exact s_X16_rest_11 hD hM r0 h hz
theorem F_X16_rest {g : GG} {d : Nat} (hD : 12 ≤ d) {x1 : Int} {M : MM} (hM : LM M) {V : VV} {r : Int × VV} (h : f_X16_rest x1 V = some r) : Sem g d YX16_rest 0 (ini YX16_rest [(1, 156), (0, x1)]) [] (wr M V) ((0, r.1), (wr M r.2)) := by
  change Sem g d YX16_rest 0 [(1, 156), (0, x1), (9, 0)] [] (wr M V) ((0, r.1), (wr M r.2))
  exact s_X16_rest_0 hD hM (P := fun x => x = r) (fun q e => by rw [e]) h rfl
/-! PeerSearchModel.run(I)I -/
theorem dX16_run_0 : decode cX16_run 0 = .ok (.iload_n 1, 1) := by decide +kernel
theorem dX16_run_1 : decode cX16_run 1 = .ok (.ifCond .lt 10, 3) := by decide +kernel
theorem dX16_run_4 : decode cX16_run 4 = .ok (.iload_n 1, 1) := by decide +kernel
theorem dX16_run_5 : decode cX16_run 5 = .ok (.sipush 1000, 3) := by decide +kernel
theorem dX16_run_8 : decode cX16_run 8 = .ok (.if_icmp .le 5, 3) := by decide +kernel
theorem dX16_run_11 : decode cX16_run 11 = .ok (.iconst (-1), 1) := by decide +kernel
theorem dX16_run_12 : decode cX16_run 12 = .ok (.ireturn, 1) := by decide +kernel
theorem dX16_run_13 : decode cX16_run 13 = .ok (.aload_n 0, 1) := by decide +kernel
theorem dX16_run_14 : decode cX16_run 14 = .ok (.iconst 0, 1) := by decide +kernel
theorem dX16_run_15 : decode cX16_run 15 = .ok (.putfield 810, 3) := by decide +kernel
theorem dX16_run_18 : decode cX16_run 18 = .ok (.iconst 0, 1) := by decide +kernel
theorem dX16_run_19 : decode cX16_run 19 = .ok (.istore_n 2, 1) := by decide +kernel
theorem dX16_run_20 : decode cX16_run 20 = .ok (.iload_n 2, 1) := by decide +kernel
theorem dX16_run_21 : decode cX16_run 21 = .ok (.iload_n 1, 1) := by decide +kernel
theorem dX16_run_22 : decode cX16_run 22 = .ok (.if_icmp .ge 13, 3) := by decide +kernel
theorem dX16_run_25 : decode cX16_run 25 = .ok (.aload_n 0, 1) := by decide +kernel
theorem dX16_run_26 : decode cX16_run 26 = .ok (.invokevirtual 825, 3) := by decide +kernel
theorem dX16_run_29 : decode cX16_run 29 = .ok (.iinc 2 1, 3) := by decide +kernel
theorem dX16_run_32 : decode cX16_run 32 = .ok (.goto (-12), 3) := by decide +kernel
theorem dX16_run_35 : decode cX16_run 35 = .ok (.aload_n 0, 1) := by decide +kernel
theorem dX16_run_36 : decode cX16_run 36 = .ok (.getfield 810, 3) := by decide +kernel
theorem dX16_run_39 : decode cX16_run 39 = .ok (.ireturn, 1) := by decide +kernel
def b_X16_run_20 (x1 x2 : Int) (V : VV) : Option ((Int × VV) ⊕ (Int × VV)) :=
  if w32 x2 < w32 x1 then
    (f_X16_tick V).bind fun V1 =>
    cnt (x2 + 1, V1)
  else
    xit (some (w32 (V 156 142), V))
def l_X16_run_20 (x1 x2 : Int) (V : VV) : Option (Int × VV) := lpN (fun s : Int × VV => b_X16_run_20 x1 s.1 s.2) FU (x2, V)
def j_X16_run_11 (V : VV) : Option (Int × VV) :=
  some ((-1), V)
def f_X16_run (x1 : Int) (V : VV) : Option (Int × VV) :=
  if w32 x1 < 0 then
    j_X16_run_11 V
  else
    if w32 1000 < w32 x1 then
      j_X16_run_11 V
    else
      (p2 142 0 V).bind fun V1 =>
      l_X16_run_20 x1 0 V1
theorem s_X16_run_20 {g : GG} {d : Nat} (hD : 12 ≤ d) {x1 x2 : Int} {M : MM} (hM : LM M) {V : VV} {o : AV × MM} {P : ((Int × VV) ⊕ (Int × VV)) → Prop} (c0 : ∀ s : Int × VV, P (.inl s) → Sem g d YX16_run 20 [(1, 156), (0, x1), (0, s.1)] [] (wr M s.2) o) (r0 : ∀ r : Int × VV, P (.inr r) → o = ((0, r.1), (wr M r.2))) {z : (Int × VV) ⊕ (Int × VV)} (h : b_X16_run_20 x1 x2 V = some z) (hz : P z) : Sem g d YX16_run 20 [(1, 156), (0, x1), (0, x2)] [] (wr M V) o := by
  delta b_X16_run_20 at h
  refine S_iload_n (i := 2) dX16_run_20 rfl rfl ?_
  refine S_iload_n (i := 1) dX16_run_21 rfl rfl ?_
  refine P_icmp_ge (tgt := 35) dX16_run_22 rfl h (fun h => ?_) (fun h => ?_)
  · obtain ⟨z0, h, hz⟩ := xit_some' (P := fun r => P r) h hz
    refine S_aload_n (i := 0) dX16_run_35 rfl rfl ?_
    refine P2_gfi hM FLX16_810 rfl dX16_run_36 ?_
    obtain rfl := r0 _ (some_P (P := fun r => P (.inr r)) h hz)
    exact P_ret dX16_run_39 rfl (Or.inl rfl)
  · refine S_aload_n (i := 0) dX16_run_25 rfl rfl ?_
    refine P2_invVm hM [] [] CVX16_tick MLX16_825 dX16_run_26 rfl rfl rfl rfl (by omega) h (fun r h => F_X16_tick (by omega) hM h) (fun V1 h => ?_)
    refine S_iinc dX16_run_29 rfl rfl rfl ?_
    change Sem g d YX16_run 32 [(1, 156), (0, x1), (0, x2 + 1)] [] (wr M V1) o
    refine S_goto (tgt := 20) dX16_run_32 rfl ?_
    exact c0 (x2 + 1, V1) (some_P (P := fun r => P r) h hz)
theorem sl_X16_run_20 {g : GG} {d : Nat} (hD : 12 ≤ d) {x1 x2 : Int} {M : MM} (hM : LM M) {V : VV} {o : AV × MM} {P : (Int × VV) → Prop} (r0 : ∀ r : Int × VV, P r → o = ((0, r.1), (wr M r.2))) {z : Int × VV} (h : l_X16_run_20 x1 x2 V = some z) (hz : P z) : Sem g d YX16_run 20 [(1, 156), (0, x1), (0, x2)] [] (wr M V) o := by
  refine lp_sound (S := fun s : Int × VV => Sem g d YX16_run 20 [(1, 156), (0, x1), (0, s.1)] [] (wr M s.2) o) (P := P) ?_ FU (x2, V) z h hz
  intro s x hx hP
  exact s_X16_run_20 hD hM (P := Sum.elim (fun s : Int × VV => Sem g d YX16_run 20 [(1, 156), (0, x1), (0, s.1)] [] (wr M s.2) o) P) (fun s h => h) (fun s h => r0 s h) hx hP
theorem s_X16_run_11 {g : GG} {d : Nat} (hD : 12 ≤ d) {M : MM} (hM : LM M) {V : VV} {o : AV × MM} {P : (Int × VV) → Prop} (r0 : ∀ r : Int × VV, P r → o = ((0, r.1), (wr M r.2))) {z : Int × VV} (h : j_X16_run_11 V = some z) (hz : P z) : Sem g d YX16_run 11 [(9, 0), (9, 0), (9, 0)] [] (wr M V) o := by
  delta j_X16_run_11 at h
  refine S_iconst dX16_run_11 rfl ?_
  obtain rfl := r0 _ (some_P (P := fun r => P r) h hz)
  exact P_ret dX16_run_12 rfl (Or.inl rfl)
theorem s_X16_run_0 {g : GG} {d : Nat} (hD : 12 ≤ d) {x1 : Int} {M : MM} (hM : LM M) {V : VV} {o : AV × MM} {P : (Int × VV) → Prop} (r0 : ∀ r : Int × VV, P r → o = ((0, r.1), (wr M r.2))) {z : Int × VV} (h : f_X16_run x1 V = some z) (hz : P z) : Sem g d YX16_run 0 [(1, 156), (0, x1), (9, 0)] [] (wr M V) o := by
  delta f_X16_run at h
  refine S_iload_n (i := 1) dX16_run_0 rfl rfl ?_
  refine P_if_lt (tgt := 11) dX16_run_1 rfl h (fun h => ?_) (fun h => ?_)
  · refine S_weak (ls' := [(9, 0), (9, 0), (9, 0)]) ⟨Or.inl rfl, ⟨Or.inl rfl, ⟨Or.inl rfl, trivial⟩⟩⟩ ?_
    exact s_X16_run_11 hD hM r0 h hz
  · refine S_iload_n (i := 1) dX16_run_4 rfl rfl ?_
    refine S_sipush (z := 1000) dX16_run_5 rfl ?_
    refine P_icmp_le (tgt := 13) dX16_run_8 rfl h (fun h => ?_) (fun h => ?_)
    · refine S_aload_n (i := 0) dX16_run_13 rfl rfl ?_
      refine S_iconst dX16_run_14 rfl ?_
      refine P2_pfi hM FLX16_810 FPX16_810 rfl dX16_run_15 h (fun V1 h => ?_)
      refine S_iconst dX16_run_18 rfl ?_
      refine S_istore_n (i := 2) dX16_run_19 rfl (Nat.le_of_ble_eq_true rfl) rfl rfl ?_
      change Sem g d YX16_run 20 [(1, 156), (0, x1), (0, 0)] [] (wr M V1) o
      exact sl_X16_run_20 hD hM r0 h hz
    · refine S_weak (ls' := [(9, 0), (9, 0), (9, 0)]) ⟨Or.inl rfl, ⟨Or.inl rfl, ⟨Or.inl rfl, trivial⟩⟩⟩ ?_
      exact s_X16_run_11 hD hM r0 h hz
theorem F_X16_run {g : GG} {d : Nat} (hD : 12 ≤ d) {x1 : Int} {M : MM} (hM : LM M) {V : VV} {r : Int × VV} (h : f_X16_run x1 V = some r) : Sem g d YX16_run 0 (ini YX16_run [(1, 156), (0, x1)]) [] (wr M V) ((0, r.1), (wr M r.2)) := by
  change Sem g d YX16_run 0 [(1, 156), (0, x1), (9, 0)] [] (wr M V) ((0, r.1), (wr M r.2))
  exact s_X16_run_0 hD hM (P := fun x => x = r) (fun q e => by rw [e]) h rfl
/-! PeerSearchModel.set(II)Z -/
theorem dX16_set_0 : decode cX16_set 0 = .ok (.iload_n 1, 1) := by decide +kernel
theorem dX16_set_1 : decode cX16_set 1 = .ok (.ifCond .lt 29, 3) := by decide +kernel
theorem dX16_set_4 : decode cX16_set 4 = .ok (.iload_n 1, 1) := by decide +kernel
theorem dX16_set_5 : decode cX16_set 5 = .ok (.bipush 10, 2) := by decide +kernel
theorem dX16_set_7 : decode cX16_set 7 = .ok (.if_icmp .gt 23, 3) := by decide +kernel
theorem dX16_set_10 : decode cX16_set 10 = .ok (.iload_n 2, 1) := by decide +kernel
theorem dX16_set_11 : decode cX16_set 11 = .ok (.aload_n 0, 1) := by decide +kernel
theorem dX16_set_12 : decode cX16_set 12 = .ok (.getfield 28, 3) := by decide +kernel
theorem dX16_set_15 : decode cX16_set 15 = .ok (.iload_n 1, 1) := by decide +kernel
theorem dX16_set_16 : decode cX16_set 16 = .ok (.iaload, 1) := by decide +kernel
theorem dX16_set_17 : decode cX16_set 17 = .ok (.if_icmp .lt 13, 3) := by decide +kernel
theorem dX16_set_20 : decode cX16_set 20 = .ok (.iload_n 2, 1) := by decide +kernel
theorem dX16_set_21 : decode cX16_set 21 = .ok (.aload_n 0, 1) := by decide +kernel
theorem dX16_set_22 : decode cX16_set 22 = .ok (.getfield 33, 3) := by decide +kernel
theorem dX16_set_25 : decode cX16_set 25 = .ok (.iload_n 1, 1) := by decide +kernel
theorem dX16_set_26 : decode cX16_set 26 = .ok (.iaload, 1) := by decide +kernel
theorem dX16_set_27 : decode cX16_set 27 = .ok (.if_icmp .le 5, 3) := by decide +kernel
theorem dX16_set_30 : decode cX16_set 30 = .ok (.iconst 0, 1) := by decide +kernel
theorem dX16_set_31 : decode cX16_set 31 = .ok (.ireturn, 1) := by decide +kernel
theorem dX16_set_32 : decode cX16_set 32 = .ok (.aload_n 0, 1) := by decide +kernel
theorem dX16_set_33 : decode cX16_set 33 = .ok (.getfield 25, 3) := by decide +kernel
theorem dX16_set_36 : decode cX16_set 36 = .ok (.iload_n 1, 1) := by decide +kernel
theorem dX16_set_37 : decode cX16_set 37 = .ok (.iload_n 2, 1) := by decide +kernel
theorem dX16_set_38 : decode cX16_set 38 = .ok (.iastore, 1) := by decide +kernel
theorem dX16_set_39 : decode cX16_set 39 = .ok (.iconst 1, 1) := by decide +kernel
theorem dX16_set_40 : decode cX16_set 40 = .ok (.ireturn, 1) := by decide +kernel
def j_X16_set_30 (V : VV) : Option (Int × VV) :=
  some (0, V)
def f_X16_set (x1 x2 : Int) (V : VV) : Option (Int × VV) :=
  if w32 x1 < 0 then
    j_X16_set_30 V
  else
    if w32 10 < w32 x1 then
      j_X16_set_30 V
    else
      (l2 163 11 x1 V).bind fun v1 =>
      if w32 x2 < w32 v1 then
        j_X16_set_30 V
      else
        (l2 164 11 x1 V).bind fun v2 =>
        if w32 v2 < w32 x2 then
          j_X16_set_30 V
        else
          (s2 162 11 x1 x2 V).bind fun V1 =>
          some (1, V1)
theorem s_X16_set_30 {g : GG} {d : Nat} (hD : 0 ≤ d) {M : MM} (hM : LM M) {V : VV} {o : AV × MM} {P : (Int × VV) → Prop} (r0 : ∀ r : Int × VV, P r → o = ((0, r.1), (wr M r.2))) {z : Int × VV} (h : j_X16_set_30 V = some z) (hz : P z) : Sem g d YX16_set 30 [(9, 0), (9, 0), (9, 0)] [] (wr M V) o := by
  delta j_X16_set_30 at h
  refine S_iconst dX16_set_30 rfl ?_
  obtain rfl := r0 _ (some_P (P := fun r => P r) h hz)
  exact P_ret dX16_set_31 rfl (Or.inr ⟨rfl, Or.inl rfl⟩)
theorem s_X16_set_0 {g : GG} {d : Nat} (hD : 0 ≤ d) {x1 x2 : Int} {M : MM} (hM : LM M) {V : VV} {o : AV × MM} {P : (Int × VV) → Prop} (r0 : ∀ r : Int × VV, P r → o = ((0, r.1), (wr M r.2))) {z : Int × VV} (h : f_X16_set x1 x2 V = some z) (hz : P z) : Sem g d YX16_set 0 [(1, 156), (0, x1), (0, x2)] [] (wr M V) o := by
  delta f_X16_set at h
  refine S_iload_n (i := 1) dX16_set_0 rfl rfl ?_
  refine P_if_lt (tgt := 30) dX16_set_1 rfl h (fun h => ?_) (fun h => ?_)
  · refine S_weak (ls' := [(9, 0), (9, 0), (9, 0)]) ⟨Or.inl rfl, ⟨Or.inl rfl, ⟨Or.inl rfl, trivial⟩⟩⟩ ?_
    exact s_X16_set_30 hD hM r0 h hz
  · refine S_iload_n (i := 1) dX16_set_4 rfl rfl ?_
    refine S_bipush (z := 10) dX16_set_5 rfl ?_
    refine P_icmp_gt (tgt := 30) dX16_set_7 rfl h (fun h => ?_) (fun h => ?_)
    · refine S_weak (ls' := [(9, 0), (9, 0), (9, 0)]) ⟨Or.inl rfl, ⟨Or.inl rfl, ⟨Or.inl rfl, trivial⟩⟩⟩ ?_
      exact s_X16_set_30 hD hM r0 h hz
    · refine S_iload_n (i := 2) dX16_set_10 rfl rfl ?_
      refine S_aload_n (i := 0) dX16_set_11 rfl rfl ?_
      refine P2_gfr hM (a := 163) FLX16_28 rfl ⟨rfl, rfl⟩ dX16_set_12 ?_
      refine S_iload_n (i := 1) dX16_set_15 rfl rfl ?_
      refine P2_lai hM (a := 163) (n := 11) rfl dX16_set_16 h (fun v1 h => ?_)
      refine P_icmp_lt (tgt := 30) dX16_set_17 rfl h (fun h => ?_) (fun h => ?_)
      · refine S_weak (ls' := [(9, 0), (9, 0), (9, 0)]) ⟨Or.inl rfl, ⟨Or.inl rfl, ⟨Or.inl rfl, trivial⟩⟩⟩ ?_
        exact s_X16_set_30 hD hM r0 h hz
      · refine S_iload_n (i := 2) dX16_set_20 rfl rfl ?_
        refine S_aload_n (i := 0) dX16_set_21 rfl rfl ?_
        refine P2_gfr hM (a := 164) FLX16_33 rfl ⟨rfl, rfl⟩ dX16_set_22 ?_
        refine S_iload_n (i := 1) dX16_set_25 rfl rfl ?_
        refine P2_lai hM (a := 164) (n := 11) rfl dX16_set_26 h (fun v2 h => ?_)
        refine P_icmp_le (tgt := 32) dX16_set_27 rfl h (fun h => ?_) (fun h => ?_)
        · refine S_aload_n (i := 0) dX16_set_32 rfl rfl ?_
          refine P2_gfr hM (a := 162) FLX16_25 rfl ⟨rfl, rfl⟩ dX16_set_33 ?_
          refine S_iload_n (i := 1) dX16_set_36 rfl rfl ?_
          refine S_iload_n (i := 2) dX16_set_37 rfl rfl ?_
          refine P2_sai hM (a := 162) (n := 11) rfl dX16_set_38 h (fun V1 h => ?_)
          refine S_iconst dX16_set_39 rfl ?_
          obtain rfl := r0 _ (some_P (P := fun r => P r) h hz)
          exact P_ret dX16_set_40 rfl (Or.inr ⟨rfl, Or.inr rfl⟩)
        · refine S_weak (ls' := [(9, 0), (9, 0), (9, 0)]) ⟨Or.inl rfl, ⟨Or.inl rfl, ⟨Or.inl rfl, trivial⟩⟩⟩ ?_
          exact s_X16_set_30 hD hM r0 h hz
theorem F_X16_set {g : GG} {d : Nat} (hD : 0 ≤ d) {x1 x2 : Int} {M : MM} (hM : LM M) {V : VV} {r : Int × VV} (h : f_X16_set x1 x2 V = some r) : Sem g d YX16_set 0 (ini YX16_set [(1, 156), (0, x1), (0, x2)]) [] (wr M V) ((0, r.1), (wr M r.2)) := by
  change Sem g d YX16_set 0 [(1, 156), (0, x1), (0, x2)] [] (wr M V) ((0, r.1), (wr M r.2))
  exact s_X16_set_0 hD hM (P := fun x => x = r) (fun q e => by rw [e]) h rfl
/-! PeerSearchModel.side(II)Z -/
theorem dX16_side_0 : decode cX16_side 0 = .ok (.aload_n 0, 1) := by decide +kernel
theorem dX16_side_1 : decode cX16_side 1 = .ok (.iload_n 1, 1) := by decide +kernel
theorem dX16_side_2 : decode cX16_side 2 = .ok (.invokevirtual 427, 3) := by decide +kernel
theorem dX16_side_5 : decode cX16_side 5 = .ok (.ifCond .eq 12, 3) := by decide +kernel
theorem dX16_side_8 : decode cX16_side 8 = .ok (.iload_n 2, 1) := by decide +kernel
theorem dX16_side_9 : decode cX16_side 9 = .ok (.ifCond .lt 8, 3) := by decide +kernel
theorem dX16_side_12 : decode cX16_side 12 = .ok (.iload_n 2, 1) := by decide +kernel
theorem dX16_side_13 : decode cX16_side 13 = .ok (.iconst 1, 1) := by decide +kernel
theorem dX16_side_14 : decode cX16_side 14 = .ok (.if_icmp .le 5, 3) := by decide +kernel
theorem dX16_side_17 : decode cX16_side 17 = .ok (.iconst 0, 1) := by decide +kernel
theorem dX16_side_18 : decode cX16_side 18 = .ok (.ireturn, 1) := by decide +kernel
theorem dX16_side_19 : decode cX16_side 19 = .ok (.aload_n 0, 1) := by decide +kernel
theorem dX16_side_20 : decode cX16_side 20 = .ok (.getfield 39, 3) := by decide +kernel
theorem dX16_side_23 : decode cX16_side 23 = .ok (.iload_n 1, 1) := by decide +kernel
theorem dX16_side_24 : decode cX16_side 24 = .ok (.iload_n 2, 1) := by decide +kernel
theorem dX16_side_25 : decode cX16_side 25 = .ok (.iastore, 1) := by decide +kernel
theorem dX16_side_26 : decode cX16_side 26 = .ok (.iconst 1, 1) := by decide +kernel
theorem dX16_side_27 : decode cX16_side 27 = .ok (.ireturn, 1) := by decide +kernel
def j_X16_side_17 (V : VV) : Option (Int × VV) :=
  some (0, V)
def f_X16_side (x1 x2 : Int) (V : VV) : Option (Int × VV) :=
  (f_X16_isPeer x1 V).bind fun v1 =>
  if w32 v1 = 0 then
    j_X16_side_17 V
  else
    if w32 x2 < 0 then
      j_X16_side_17 V
    else
      if w32 1 < w32 x2 then
        j_X16_side_17 V
      else
        (s2 166 32 x1 x2 V).bind fun V1 =>
        some (1, V1)
theorem s_X16_side_17 {g : GG} {d : Nat} (hD : 1 ≤ d) {M : MM} (hM : LM M) {V : VV} {o : AV × MM} {P : (Int × VV) → Prop} (r0 : ∀ r : Int × VV, P r → o = ((0, r.1), (wr M r.2))) {z : Int × VV} (h : j_X16_side_17 V = some z) (hz : P z) : Sem g d YX16_side 17 [(9, 0), (9, 0), (9, 0)] [] (wr M V) o := by
  delta j_X16_side_17 at h
  refine S_iconst dX16_side_17 rfl ?_
  obtain rfl := r0 _ (some_P (P := fun r => P r) h hz)
  exact P_ret dX16_side_18 rfl (Or.inr ⟨rfl, Or.inl rfl⟩)
theorem s_X16_side_0 {g : GG} {d : Nat} (hD : 1 ≤ d) {x1 x2 : Int} {M : MM} (hM : LM M) {V : VV} {o : AV × MM} {P : (Int × VV) → Prop} (r0 : ∀ r : Int × VV, P r → o = ((0, r.1), (wr M r.2))) {z : Int × VV} (h : f_X16_side x1 x2 V = some z) (hz : P z) : Sem g d YX16_side 0 [(1, 156), (0, x1), (0, x2)] [] (wr M V) o := by
  delta f_X16_side at h
  refine S_aload_n (i := 0) dX16_side_0 rfl rfl ?_
  refine S_iload_n (i := 1) dX16_side_1 rfl rfl ?_
  refine P2_invVp hM 0 [(0, x1)] [] CVX16_isPeer MLX16_427 dX16_side_2 rfl rfl rfl rfl rfl (by omega) h (fun r h => F_X16_isPeer (by omega) hM h) (fun v1 h => ?_)
  refine P_if_eq (tgt := 17) dX16_side_5 rfl h (fun h => ?_) (fun h => ?_)
  · refine S_weak (ls' := [(9, 0), (9, 0), (9, 0)]) ⟨Or.inl rfl, ⟨Or.inl rfl, ⟨Or.inl rfl, trivial⟩⟩⟩ ?_
    exact s_X16_side_17 hD hM r0 h hz
  · refine S_iload_n (i := 2) dX16_side_8 rfl rfl ?_
    refine P_if_lt (tgt := 17) dX16_side_9 rfl h (fun h => ?_) (fun h => ?_)
    · refine S_weak (ls' := [(9, 0), (9, 0), (9, 0)]) ⟨Or.inl rfl, ⟨Or.inl rfl, ⟨Or.inl rfl, trivial⟩⟩⟩ ?_
      exact s_X16_side_17 hD hM r0 h hz
    · refine S_iload_n (i := 2) dX16_side_12 rfl rfl ?_
      refine S_iconst dX16_side_13 rfl ?_
      refine P_icmp_le (tgt := 19) dX16_side_14 rfl h (fun h => ?_) (fun h => ?_)
      · refine S_aload_n (i := 0) dX16_side_19 rfl rfl ?_
        refine P2_gfr hM (a := 166) FLX16_39 rfl ⟨rfl, rfl⟩ dX16_side_20 ?_
        refine S_iload_n (i := 1) dX16_side_23 rfl rfl ?_
        refine S_iload_n (i := 2) dX16_side_24 rfl rfl ?_
        refine P2_sai hM (a := 166) (n := 32) rfl dX16_side_25 h (fun V1 h => ?_)
        refine S_iconst dX16_side_26 rfl ?_
        obtain rfl := r0 _ (some_P (P := fun r => P r) h hz)
        exact P_ret dX16_side_27 rfl (Or.inr ⟨rfl, Or.inr rfl⟩)
      · refine S_weak (ls' := [(9, 0), (9, 0), (9, 0)]) ⟨Or.inl rfl, ⟨Or.inl rfl, ⟨Or.inl rfl, trivial⟩⟩⟩ ?_
        exact s_X16_side_17 hD hM r0 h hz
theorem F_X16_side {g : GG} {d : Nat} (hD : 1 ≤ d) {x1 x2 : Int} {M : MM} (hM : LM M) {V : VV} {r : Int × VV} (h : f_X16_side x1 x2 V = some r) : Sem g d YX16_side 0 (ini YX16_side [(1, 156), (0, x1), (0, x2)]) [] (wr M V) ((0, r.1), (wr M r.2)) := by
  change Sem g d YX16_side 0 [(1, 156), (0, x1), (0, x2)] [] (wr M V) ((0, r.1), (wr M r.2))
  exact s_X16_side_0 hD hM (P := fun x => x = r) (fun q e => by rw [e]) h rfl
/-! PeerSearchModel.isTrue(I)Z -/
theorem dX16_isTrue_0 : decode cX16_isTrue 0 = .ok (.iconst 1, 1) := by decide +kernel
theorem dX16_isTrue_1 : decode cX16_isTrue 1 = .ok (.istore_n 2, 1) := by decide +kernel
theorem dX16_isTrue_2 : decode cX16_isTrue 2 = .ok (.sipush 1100, 3) := by decide +kernel
theorem dX16_isTrue_5 : decode cX16_isTrue 5 = .ok (.iload_n 1, 1) := by decide +kernel
theorem dX16_isTrue_6 : decode cX16_isTrue 6 = .ok (.imul, 1) := by decide +kernel
theorem dX16_isTrue_7 : decode cX16_isTrue 7 = .ok (.istore_n 3, 1) := by decide +kernel
theorem dX16_isTrue_8 : decode cX16_isTrue 8 = .ok (.iload_n 3, 1) := by decide +kernel
theorem dX16_isTrue_9 : decode cX16_isTrue 9 = .ok (.sipush 1100, 3) := by decide +kernel
theorem dX16_isTrue_12 : decode cX16_isTrue 12 = .ok (.iload_n 1, 1) := by decide +kernel
theorem dX16_isTrue_13 : decode cX16_isTrue 13 = .ok (.imul, 1) := by decide +kernel
theorem dX16_isTrue_14 : decode cX16_isTrue 14 = .ok (.aload_n 0, 1) := by decide +kernel
theorem dX16_isTrue_15 : decode cX16_isTrue 15 = .ok (.getfield 110, 3) := by decide +kernel
theorem dX16_isTrue_18 : decode cX16_isTrue 18 = .ok (.iload_n 1, 1) := by decide +kernel
theorem dX16_isTrue_19 : decode cX16_isTrue 19 = .ok (.iaload, 1) := by decide +kernel
theorem dX16_isTrue_20 : decode cX16_isTrue 20 = .ok (.iadd, 1) := by decide +kernel
theorem dX16_isTrue_21 : decode cX16_isTrue 21 = .ok (.if_icmp .ge 70, 3) := by decide +kernel
theorem dX16_isTrue_24 : decode cX16_isTrue 24 = .ok (.aload_n 0, 1) := by decide +kernel
theorem dX16_isTrue_25 : decode cX16_isTrue 25 = .ok (.getfield 118, 3) := by decide +kernel
theorem dX16_isTrue_28 : decode cX16_isTrue 28 = .ok (.iload_n 3, 1) := by decide +kernel
theorem dX16_isTrue_29 : decode cX16_isTrue 29 = .ok (.iaload, 1) := by decide +kernel
theorem dX16_isTrue_30 : decode cX16_isTrue 30 = .ok (.istore 4, 2) := by decide +kernel
theorem dX16_isTrue_32 : decode cX16_isTrue 32 = .ok (.iload_n 2, 1) := by decide +kernel
theorem dX16_isTrue_33 : decode cX16_isTrue 33 = .ok (.ifCond .eq 50, 3) := by decide +kernel
theorem dX16_isTrue_36 : decode cX16_isTrue 36 = .ok (.aload_n 0, 1) := by decide +kernel
theorem dX16_isTrue_37 : decode cX16_isTrue 37 = .ok (.iload 4, 2) := by decide +kernel
theorem dX16_isTrue_39 : decode cX16_isTrue 39 = .ok (.invokevirtual 729, 3) := by decide +kernel
theorem dX16_isTrue_42 : decode cX16_isTrue 42 = .ok (.ifCond .eq 41, 3) := by decide +kernel
theorem dX16_isTrue_45 : decode cX16_isTrue 45 = .ok (.aload_n 0, 1) := by decide +kernel
theorem dX16_isTrue_46 : decode cX16_isTrue 46 = .ok (.getfield 114, 3) := by decide +kernel
theorem dX16_isTrue_49 : decode cX16_isTrue 49 = .ok (.iconst 5, 1) := by decide +kernel
theorem dX16_isTrue_50 : decode cX16_isTrue 50 = .ok (.iload_n 3, 1) := by decide +kernel
theorem dX16_isTrue_51 : decode cX16_isTrue 51 = .ok (.imul, 1) := by decide +kernel
theorem dX16_isTrue_52 : decode cX16_isTrue 52 = .ok (.aload_n 0, 1) := by decide +kernel
theorem dX16_isTrue_53 : decode cX16_isTrue 53 = .ok (.getfield 36, 3) := by decide +kernel
theorem dX16_isTrue_56 : decode cX16_isTrue 56 = .ok (.iconst 5, 1) := by decide +kernel
theorem dX16_isTrue_57 : decode cX16_isTrue 57 = .ok (.aload_n 0, 1) := by decide +kernel
theorem dX16_isTrue_58 : decode cX16_isTrue 58 = .ok (.iload 4, 2) := by decide +kernel
theorem dX16_isTrue_60 : decode cX16_isTrue 60 = .ok (.invokevirtual 729, 3) := by decide +kernel
theorem dX16_isTrue_63 : decode cX16_isTrue 63 = .ok (.ifCond .eq 8, 3) := by decide +kernel
theorem dX16_isTrue_66 : decode cX16_isTrue 66 = .ok (.iload 4, 2) := by decide +kernel
theorem dX16_isTrue_68 : decode cX16_isTrue 68 = .ok (.goto 4, 3) := by decide +kernel
theorem dX16_isTrue_71 : decode cX16_isTrue 71 = .ok (.iconst 0, 1) := by decide +kernel
theorem dX16_isTrue_72 : decode cX16_isTrue 72 = .ok (.imul, 1) := by decide +kernel
theorem dX16_isTrue_73 : decode cX16_isTrue 73 = .ok (.invokestatic 434, 3) := by decide +kernel
theorem dX16_isTrue_76 : decode cX16_isTrue 76 = .ok (.ifCond .eq 7, 3) := by decide +kernel
theorem dX16_isTrue_79 : decode cX16_isTrue 79 = .ok (.iconst 1, 1) := by decide +kernel
theorem dX16_isTrue_80 : decode cX16_isTrue 80 = .ok (.goto 4, 3) := by decide +kernel
theorem dX16_isTrue_83 : decode cX16_isTrue 83 = .ok (.iconst 0, 1) := by decide +kernel
theorem dX16_isTrue_84 : decode cX16_isTrue 84 = .ok (.istore_n 2, 1) := by decide +kernel
theorem dX16_isTrue_85 : decode cX16_isTrue 85 = .ok (.iinc 3 1, 3) := by decide +kernel
theorem dX16_isTrue_88 : decode cX16_isTrue 88 = .ok (.goto (-80), 3) := by decide +kernel
theorem dX16_isTrue_91 : decode cX16_isTrue 91 = .ok (.iconst 0, 1) := by decide +kernel
theorem dX16_isTrue_92 : decode cX16_isTrue 92 = .ok (.istore_n 3, 1) := by decide +kernel
theorem dX16_isTrue_93 : decode cX16_isTrue 93 = .ok (.iload_n 3, 1) := by decide +kernel
theorem dX16_isTrue_94 : decode cX16_isTrue 94 = .ok (.aload_n 0, 1) := by decide +kernel
theorem dX16_isTrue_95 : decode cX16_isTrue 95 = .ok (.getfield 424, 3) := by decide +kernel
theorem dX16_isTrue_98 : decode cX16_isTrue 98 = .ok (.if_icmp .ge 60, 3) := by decide +kernel
theorem dX16_isTrue_101 : decode cX16_isTrue 101 = .ok (.iload_n 3, 1) := by decide +kernel
theorem dX16_isTrue_102 : decode cX16_isTrue 102 = .ok (.iload_n 1, 1) := by decide +kernel
theorem dX16_isTrue_103 : decode cX16_isTrue 103 = .ok (.if_icmp .eq 49, 3) := by decide +kernel
theorem dX16_isTrue_106 : decode cX16_isTrue 106 = .ok (.aload_n 0, 1) := by decide +kernel
theorem dX16_isTrue_107 : decode cX16_isTrue 107 = .ok (.getfield 42, 3) := by decide +kernel
theorem dX16_isTrue_110 : decode cX16_isTrue 110 = .ok (.iload_n 3, 1) := by decide +kernel
theorem dX16_isTrue_111 : decode cX16_isTrue 111 = .ok (.iaload, 1) := by decide +kernel
theorem dX16_isTrue_112 : decode cX16_isTrue 112 = .ok (.iconst 1, 1) := by decide +kernel
theorem dX16_isTrue_113 : decode cX16_isTrue 113 = .ok (.if_icmp .ne 39, 3) := by decide +kernel
theorem dX16_isTrue_116 : decode cX16_isTrue 116 = .ok (.iload_n 2, 1) := by decide +kernel
theorem dX16_isTrue_117 : decode cX16_isTrue 117 = .ok (.ifCond .eq 33, 3) := by decide +kernel
theorem dX16_isTrue_120 : decode cX16_isTrue 120 = .ok (.aload_n 0, 1) := by decide +kernel
theorem dX16_isTrue_121 : decode cX16_isTrue 121 = .ok (.iload_n 1, 1) := by decide +kernel
theorem dX16_isTrue_122 : decode cX16_isTrue 122 = .ok (.aload_n 0, 1) := by decide +kernel
theorem dX16_isTrue_123 : decode cX16_isTrue 123 = .ok (.getfield 36, 3) := by decide +kernel
theorem dX16_isTrue_126 : decode cX16_isTrue 126 = .ok (.iconst 5, 1) := by decide +kernel
theorem dX16_isTrue_127 : decode cX16_isTrue 127 = .ok (.iload_n 1, 1) := by decide +kernel
theorem dX16_isTrue_128 : decode cX16_isTrue 128 = .ok (.imul, 1) := by decide +kernel
theorem dX16_isTrue_129 : decode cX16_isTrue 129 = .ok (.aload_n 0, 1) := by decide +kernel
theorem dX16_isTrue_130 : decode cX16_isTrue 130 = .ok (.getfield 36, 3) := by decide +kernel
theorem dX16_isTrue_133 : decode cX16_isTrue 133 = .ok (.iconst 5, 1) := by decide +kernel
theorem dX16_isTrue_134 : decode cX16_isTrue 134 = .ok (.iload_n 3, 1) := by decide +kernel
theorem dX16_isTrue_135 : decode cX16_isTrue 135 = .ok (.imul, 1) := by decide +kernel
theorem dX16_isTrue_136 : decode cX16_isTrue 136 = .ok (.invokestatic 503, 3) := by decide +kernel
theorem dX16_isTrue_139 : decode cX16_isTrue 139 = .ok (.iconst 0, 1) := by decide +kernel
theorem dX16_isTrue_140 : decode cX16_isTrue 140 = .ok (.invokevirtual 511, 3) := by decide +kernel
theorem dX16_isTrue_143 : decode cX16_isTrue 143 = .ok (.ifCond .le 7, 3) := by decide +kernel
theorem dX16_isTrue_146 : decode cX16_isTrue 146 = .ok (.iconst 1, 1) := by decide +kernel
theorem dX16_isTrue_147 : decode cX16_isTrue 147 = .ok (.goto 4, 3) := by decide +kernel
theorem dX16_isTrue_150 : decode cX16_isTrue 150 = .ok (.iconst 0, 1) := by decide +kernel
theorem dX16_isTrue_151 : decode cX16_isTrue 151 = .ok (.istore_n 2, 1) := by decide +kernel
theorem dX16_isTrue_152 : decode cX16_isTrue 152 = .ok (.iinc 3 1, 3) := by decide +kernel
theorem dX16_isTrue_155 : decode cX16_isTrue 155 = .ok (.goto (-62), 3) := by decide +kernel
theorem dX16_isTrue_158 : decode cX16_isTrue 158 = .ok (.iload_n 2, 1) := by decide +kernel
theorem dX16_isTrue_159 : decode cX16_isTrue 159 = .ok (.ireturn, 1) := by decide +kernel
def j_X16_isTrue_152 (x1 x2 x3 : Int) (V : VV) : Option ((Int × Int) ⊕ (Int)) :=
  cnt (x2, x3 + 1)
def j_X16_isTrue_151 (x1 x3 y0 : Int) (V : VV) : Option ((Int × Int) ⊕ (Int)) :=
  j_X16_isTrue_152 x1 y0 x3 V
def j_X16_isTrue_150 (x1 x3 : Int) (V : VV) : Option ((Int × Int) ⊕ (Int)) :=
  j_X16_isTrue_151 x1 x3 0 V
def b_X16_isTrue_93 (x1 x2 x3 : Int) (V : VV) : Option ((Int × Int) ⊕ (Int)) :=
  if w32 x3 < w32 (w32 (V 156 13)) then
    if w32 x3 = w32 x1 then
      j_X16_isTrue_152 x1 x2 x3 V
    else
      (l2 167 32 x3 V).bind fun v1 =>
      if w32 v1 = w32 1 then
        if w32 x2 = 0 then
          j_X16_isTrue_150 x1 x3 V
        else
          (f_X16_common 165 (5 * x1) 165 (5 * x3) V).bind fun v2 =>
          (f_X16_inBucket x1 v2 0 V).bind fun v3 =>
          if 0 < w32 v3 then
            j_X16_isTrue_151 x1 x3 1 V
          else
            j_X16_isTrue_150 x1 x3 V
      else
        j_X16_isTrue_152 x1 x2 x3 V
  else
    xit (bz x2 (some x2))
def l_X16_isTrue_93 (x1 x2 x3 : Int) (V : VV) : Option (Int) := lpN (fun s : Int × Int => b_X16_isTrue_93 x1 s.1 s.2 V) FU (x2, x3)
def j_X16_isTrue_91 (x1 x2 : Int) (V : VV) : Option (Int) :=
  l_X16_isTrue_93 x1 x2 0 V
def j_X16_isTrue_84 (x1 x3 y0 : Int) (V : VV) : Option ((Int × Int) ⊕ (Int)) :=
  cnt (y0, x3 + 1)
def j_X16_isTrue_83 (x1 x3 : Int) (V : VV) : Option ((Int × Int) ⊕ (Int)) :=
  j_X16_isTrue_84 x1 x3 0 V
def j_X16_isTrue_72 (x1 x3 y1 y3 y4 : Int) (V : VV) : Option ((Int × Int) ⊕ (Int)) :=
  (f_X16_same 190 y1 165 (y3 * y4) V).bind fun v1 =>
  if w32 v1 = 0 then
    j_X16_isTrue_83 x1 x3 V
  else
    j_X16_isTrue_84 x1 x3 1 V
def b_X16_isTrue_8 (x1 x2 x3 : Int) (V : VV) : Option ((Int × Int) ⊕ (Int)) :=
  (l2 189 32 x1 V).bind fun v1 =>
  if w32 x3 < w32 ((1100 * x1) + v1) then
    (l2 191 35200 x3 V).bind fun v2 =>
    if w32 x2 = 0 then
      j_X16_isTrue_83 x1 x3 V
    else
      (f_X16_lives v2 V).bind fun v3 =>
      if w32 v3 = 0 then
        j_X16_isTrue_83 x1 x3 V
      else
        (f_X16_lives v2 V).bind fun v4 =>
        if w32 v4 = 0 then
          j_X16_isTrue_72 x1 x3 (5 * x3) 5 0 V
        else
          j_X16_isTrue_72 x1 x3 (5 * x3) 5 v2 V
  else
    xit (j_X16_isTrue_91 x1 x2 V)
def l_X16_isTrue_8 (x1 x2 x3 : Int) (V : VV) : Option (Int) := lpN (fun s : Int × Int => b_X16_isTrue_8 x1 s.1 s.2 V) FU (x2, x3)
def f_X16_isTrue (x1 : Int) (V : VV) : Option (Int) :=
  l_X16_isTrue_8 x1 1 (1100 * x1) V
theorem s_X16_isTrue_152 {g : GG} {d : Nat} (hD : 2 ≤ d) {x1 x2 x3 : Int} {M : MM} (hM : LM M) {V : VV} {o : AV × MM} {P : ((Int × Int) ⊕ (Int)) → Prop} (c0 : ∀ s : Int × Int, P (.inl s) → Sem g d YX16_isTrue 93 [(1, 156), (0, x1), (0, s.1), (0, s.2), (9, 0)] [] (wr M V) o) (r0 : ∀ r : Int, P (.inr r) → o = ((0, r), (wr M V))) {z : (Int × Int) ⊕ (Int)} (h : j_X16_isTrue_152 x1 x2 x3 V = some z) (hz : P z) : Sem g d YX16_isTrue 152 [(1, 156), (0, x1), (0, x2), (0, x3), (9, 0)] [] (wr M V) o := by
  delta j_X16_isTrue_152 at h
  refine S_iinc dX16_isTrue_152 rfl rfl rfl ?_
  change Sem g d YX16_isTrue 155 [(1, 156), (0, x1), (0, x2), (0, x3 + 1), (9, 0)] [] (wr M V) o
  refine S_goto (tgt := 93) dX16_isTrue_155 rfl ?_
  exact c0 (x2, x3 + 1) (some_P (P := fun r => P r) h hz)
theorem s_X16_isTrue_151 {g : GG} {d : Nat} (hD : 2 ≤ d) {x1 x3 y0 : Int} {M : MM} (hM : LM M) {V : VV} {o : AV × MM} {P : ((Int × Int) ⊕ (Int)) → Prop} (c0 : ∀ s : Int × Int, P (.inl s) → Sem g d YX16_isTrue 93 [(1, 156), (0, x1), (0, s.1), (0, s.2), (9, 0)] [] (wr M V) o) (r0 : ∀ r : Int, P (.inr r) → o = ((0, r), (wr M V))) {z : (Int × Int) ⊕ (Int)} (h : j_X16_isTrue_151 x1 x3 y0 V = some z) (hz : P z) : Sem g d YX16_isTrue 151 [(1, 156), (0, x1), (9, 0), (0, x3), (9, 0)] [(0, y0)] (wr M V) o := by
  delta j_X16_isTrue_151 at h
  refine S_istore_n (i := 2) dX16_isTrue_151 rfl (Nat.le_of_ble_eq_true rfl) rfl rfl ?_
  change Sem g d YX16_isTrue 152 [(1, 156), (0, x1), (0, y0), (0, x3), (9, 0)] [] (wr M V) o
  exact s_X16_isTrue_152 hD hM c0 r0 h hz
theorem s_X16_isTrue_150 {g : GG} {d : Nat} (hD : 2 ≤ d) {x1 x3 : Int} {M : MM} (hM : LM M) {V : VV} {o : AV × MM} {P : ((Int × Int) ⊕ (Int)) → Prop} (c0 : ∀ s : Int × Int, P (.inl s) → Sem g d YX16_isTrue 93 [(1, 156), (0, x1), (0, s.1), (0, s.2), (9, 0)] [] (wr M V) o) (r0 : ∀ r : Int, P (.inr r) → o = ((0, r), (wr M V))) {z : (Int × Int) ⊕ (Int)} (h : j_X16_isTrue_150 x1 x3 V = some z) (hz : P z) : Sem g d YX16_isTrue 150 [(1, 156), (0, x1), (9, 0), (0, x3), (9, 0)] [] (wr M V) o := by
  delta j_X16_isTrue_150 at h
  refine S_iconst dX16_isTrue_150 rfl ?_
  exact s_X16_isTrue_151 hD hM c0 r0 h hz
theorem s_X16_isTrue_93 {g : GG} {d : Nat} (hD : 2 ≤ d) {x1 x2 x3 : Int} {M : MM} (hM : LM M) {V : VV} {o : AV × MM} {P : ((Int × Int) ⊕ (Int)) → Prop} (c0 : ∀ s : Int × Int, P (.inl s) → Sem g d YX16_isTrue 93 [(1, 156), (0, x1), (0, s.1), (0, s.2), (9, 0)] [] (wr M V) o) (r0 : ∀ r : Int, P (.inr r) → o = ((0, r), (wr M V))) {z : (Int × Int) ⊕ (Int)} (h : b_X16_isTrue_93 x1 x2 x3 V = some z) (hz : P z) : Sem g d YX16_isTrue 93 [(1, 156), (0, x1), (0, x2), (0, x3), (9, 0)] [] (wr M V) o := by
  delta b_X16_isTrue_93 at h
  refine S_iload_n (i := 3) dX16_isTrue_93 rfl rfl ?_
  refine S_aload_n (i := 0) dX16_isTrue_94 rfl rfl ?_
  refine P2_gfi hM FLX16_424 rfl dX16_isTrue_95 ?_
  refine P_icmp_ge (tgt := 158) dX16_isTrue_98 rfl h (fun h => ?_) (fun h => ?_)
  · obtain ⟨z0, h, hz⟩ := xit_some' (P := fun r => P r) h hz
    refine S_iload_n (i := 2) dX16_isTrue_158 rfl rfl ?_
    obtain ⟨hb, h⟩ := bz_some h
    obtain rfl := r0 _ (some_P (P := fun r => P (.inr r)) h hz)
    exact P_ret dX16_isTrue_159 rfl (Or.inr ⟨rfl, hb⟩)
  · refine S_iload_n (i := 3) dX16_isTrue_101 rfl rfl ?_
    refine S_iload_n (i := 1) dX16_isTrue_102 rfl rfl ?_
    refine P_icmp_eq (tgt := 152) dX16_isTrue_103 rfl h (fun h => ?_) (fun h => ?_)
    · exact s_X16_isTrue_152 hD hM c0 r0 h hz
    · refine S_aload_n (i := 0) dX16_isTrue_106 rfl rfl ?_
      refine P2_gfr hM (a := 167) FLX16_42 rfl ⟨rfl, rfl⟩ dX16_isTrue_107 ?_
      refine S_iload_n (i := 3) dX16_isTrue_110 rfl rfl ?_
      refine P2_lai hM (a := 167) (n := 32) rfl dX16_isTrue_111 h (fun v1 h => ?_)
      refine S_iconst dX16_isTrue_112 rfl ?_
      refine P_icmp_ne (tgt := 152) dX16_isTrue_113 rfl h (fun h => ?_) (fun h => ?_)
      · exact s_X16_isTrue_152 hD hM c0 r0 h hz
      · refine S_iload_n (i := 2) dX16_isTrue_116 rfl rfl ?_
        refine P_if_eq (tgt := 150) dX16_isTrue_117 rfl h (fun h => ?_) (fun h => ?_)
        · refine S_weak (ls' := [(1, 156), (0, x1), (9, 0), (0, x3), (9, 0)]) ⟨Or.inr rfl, ⟨Or.inr rfl, ⟨Or.inl rfl, ⟨Or.inr rfl, ⟨Or.inl rfl, trivial⟩⟩⟩⟩⟩ ?_
          exact s_X16_isTrue_150 hD hM c0 r0 h hz
        · refine S_aload_n (i := 0) dX16_isTrue_120 rfl rfl ?_
          refine S_iload_n (i := 1) dX16_isTrue_121 rfl rfl ?_
          refine S_aload_n (i := 0) dX16_isTrue_122 rfl rfl ?_
          refine P2_gfr hM (a := 165) FLX16_36 rfl ⟨rfl, rfl⟩ dX16_isTrue_123 ?_
          refine S_iconst dX16_isTrue_126 rfl ?_
          refine S_iload_n (i := 1) dX16_isTrue_127 rfl rfl ?_
          refine S_imul dX16_isTrue_128 ?_
          refine S_aload_n (i := 0) dX16_isTrue_129 rfl rfl ?_
          refine P2_gfr hM (a := 165) FLX16_36 rfl ⟨rfl, rfl⟩ dX16_isTrue_130 ?_
          refine S_iconst dX16_isTrue_133 rfl ?_
          refine S_iload_n (i := 3) dX16_isTrue_134 rfl rfl ?_
          refine S_imul dX16_isTrue_135 ?_
          refine P_invSp 0 [(1, 165), (0, 5 * x1), (1, 165), (0, 5 * x3)] [(0, x1), (1, 156)] CSX16_common MLX16_503 dX16_isTrue_136 rfl rfl rfl rfl rfl (by omega) h (fun r h => F_X16_common (by omega) hM h) (fun v2 h => ?_)
          refine S_iconst dX16_isTrue_139 rfl ?_
          refine P2_invVp hM 0 [(0, x1), (0, v2), (0, 0)] [] CVX16_inBucket MLX16_511 dX16_isTrue_140 rfl rfl rfl rfl rfl (by omega) h (fun r h => F_X16_inBucket (by omega) hM h) (fun v3 h => ?_)
          refine P_if_le (tgt := 150) dX16_isTrue_143 rfl h (fun h => ?_) (fun h => ?_)
          · refine S_weak (ls' := [(1, 156), (0, x1), (9, 0), (0, x3), (9, 0)]) ⟨Or.inr rfl, ⟨Or.inr rfl, ⟨Or.inl rfl, ⟨Or.inr rfl, ⟨Or.inl rfl, trivial⟩⟩⟩⟩⟩ ?_
            exact s_X16_isTrue_150 hD hM c0 r0 h hz
          · refine S_iconst dX16_isTrue_146 rfl ?_
            refine S_goto (tgt := 151) dX16_isTrue_147 rfl ?_
            refine S_weak (ls' := [(1, 156), (0, x1), (9, 0), (0, x3), (9, 0)]) ⟨Or.inr rfl, ⟨Or.inr rfl, ⟨Or.inl rfl, ⟨Or.inr rfl, ⟨Or.inl rfl, trivial⟩⟩⟩⟩⟩ ?_
            exact s_X16_isTrue_151 hD hM c0 r0 h hz
theorem sl_X16_isTrue_93 {g : GG} {d : Nat} (hD : 2 ≤ d) {x1 x2 x3 : Int} {M : MM} (hM : LM M) {V : VV} {o : AV × MM} {P : (Int) → Prop} (r0 : ∀ r : Int, P r → o = ((0, r), (wr M V))) {z : Int} (h : l_X16_isTrue_93 x1 x2 x3 V = some z) (hz : P z) : Sem g d YX16_isTrue 93 [(1, 156), (0, x1), (0, x2), (0, x3), (9, 0)] [] (wr M V) o := by
  refine lp_sound (S := fun s : Int × Int => Sem g d YX16_isTrue 93 [(1, 156), (0, x1), (0, s.1), (0, s.2), (9, 0)] [] (wr M V) o) (P := P) ?_ FU (x2, x3) z h hz
  intro s x hx hP
  exact s_X16_isTrue_93 hD hM (P := Sum.elim (fun s : Int × Int => Sem g d YX16_isTrue 93 [(1, 156), (0, x1), (0, s.1), (0, s.2), (9, 0)] [] (wr M V) o) P) (fun s h => h) (fun s h => r0 s h) hx hP
theorem s_X16_isTrue_91 {g : GG} {d : Nat} (hD : 2 ≤ d) {x1 x2 : Int} {M : MM} (hM : LM M) {V : VV} {o : AV × MM} {P : (Int) → Prop} (r0 : ∀ r : Int, P r → o = ((0, r), (wr M V))) {z : Int} (h : j_X16_isTrue_91 x1 x2 V = some z) (hz : P z) : Sem g d YX16_isTrue 91 [(1, 156), (0, x1), (0, x2), (9, 0), (9, 0)] [] (wr M V) o := by
  delta j_X16_isTrue_91 at h
  refine S_iconst dX16_isTrue_91 rfl ?_
  refine S_istore_n (i := 3) dX16_isTrue_92 rfl (Nat.le_of_ble_eq_true rfl) rfl rfl ?_
  change Sem g d YX16_isTrue 93 [(1, 156), (0, x1), (0, x2), (0, 0), (9, 0)] [] (wr M V) o
  exact sl_X16_isTrue_93 hD hM r0 h hz
theorem s_X16_isTrue_84 {g : GG} {d : Nat} (hD : 2 ≤ d) {x1 x3 y0 : Int} {M : MM} (hM : LM M) {V : VV} {o : AV × MM} {P : ((Int × Int) ⊕ (Int)) → Prop} (c0 : ∀ s : Int × Int, P (.inl s) → Sem g d YX16_isTrue 8 [(1, 156), (0, x1), (0, s.1), (0, s.2), (9, 0)] [] (wr M V) o) (r0 : ∀ r : Int, P (.inr r) → o = ((0, r), (wr M V))) {z : (Int × Int) ⊕ (Int)} (h : j_X16_isTrue_84 x1 x3 y0 V = some z) (hz : P z) : Sem g d YX16_isTrue 84 [(1, 156), (0, x1), (9, 0), (0, x3), (9, 0)] [(0, y0)] (wr M V) o := by
  delta j_X16_isTrue_84 at h
  refine S_istore_n (i := 2) dX16_isTrue_84 rfl (Nat.le_of_ble_eq_true rfl) rfl rfl ?_
  change Sem g d YX16_isTrue 85 [(1, 156), (0, x1), (0, y0), (0, x3), (9, 0)] [] (wr M V) o
  refine S_iinc dX16_isTrue_85 rfl rfl rfl ?_
  change Sem g d YX16_isTrue 88 [(1, 156), (0, x1), (0, y0), (0, x3 + 1), (9, 0)] [] (wr M V) o
  refine S_goto (tgt := 8) dX16_isTrue_88 rfl ?_
  exact c0 (y0, x3 + 1) (some_P (P := fun r => P r) h hz)
theorem s_X16_isTrue_83 {g : GG} {d : Nat} (hD : 2 ≤ d) {x1 x3 : Int} {M : MM} (hM : LM M) {V : VV} {o : AV × MM} {P : ((Int × Int) ⊕ (Int)) → Prop} (c0 : ∀ s : Int × Int, P (.inl s) → Sem g d YX16_isTrue 8 [(1, 156), (0, x1), (0, s.1), (0, s.2), (9, 0)] [] (wr M V) o) (r0 : ∀ r : Int, P (.inr r) → o = ((0, r), (wr M V))) {z : (Int × Int) ⊕ (Int)} (h : j_X16_isTrue_83 x1 x3 V = some z) (hz : P z) : Sem g d YX16_isTrue 83 [(1, 156), (0, x1), (9, 0), (0, x3), (9, 0)] [] (wr M V) o := by
  delta j_X16_isTrue_83 at h
  refine S_iconst dX16_isTrue_83 rfl ?_
  exact s_X16_isTrue_84 hD hM c0 r0 h hz
theorem s_X16_isTrue_72 {g : GG} {d : Nat} (hD : 2 ≤ d) {x1 x3 y1 y3 y4 : Int} {M : MM} (hM : LM M) {V : VV} {o : AV × MM} {P : ((Int × Int) ⊕ (Int)) → Prop} (c0 : ∀ s : Int × Int, P (.inl s) → Sem g d YX16_isTrue 8 [(1, 156), (0, x1), (0, s.1), (0, s.2), (9, 0)] [] (wr M V) o) (r0 : ∀ r : Int, P (.inr r) → o = ((0, r), (wr M V))) {z : (Int × Int) ⊕ (Int)} (h : j_X16_isTrue_72 x1 x3 y1 y3 y4 V = some z) (hz : P z) : Sem g d YX16_isTrue 72 [(1, 156), (0, x1), (9, 0), (0, x3), (9, 0)] [(0, y4), (0, y3), (1, 165), (0, y1), (1, 190)] (wr M V) o := by
  delta j_X16_isTrue_72 at h
  refine S_imul dX16_isTrue_72 ?_
  refine P_invSp 0 [(1, 190), (0, y1), (1, 165), (0, y3 * y4)] [] CSX16_same MLX16_434 dX16_isTrue_73 rfl rfl rfl rfl rfl (by omega) h (fun r h => F_X16_same (by omega) hM h) (fun v1 h => ?_)
  refine P_if_eq (tgt := 83) dX16_isTrue_76 rfl h (fun h => ?_) (fun h => ?_)
  · exact s_X16_isTrue_83 hD hM c0 r0 h hz
  · refine S_iconst dX16_isTrue_79 rfl ?_
    refine S_goto (tgt := 84) dX16_isTrue_80 rfl ?_
    exact s_X16_isTrue_84 hD hM c0 r0 h hz
theorem s_X16_isTrue_8 {g : GG} {d : Nat} (hD : 2 ≤ d) {x1 x2 x3 : Int} {M : MM} (hM : LM M) {V : VV} {o : AV × MM} {P : ((Int × Int) ⊕ (Int)) → Prop} (c0 : ∀ s : Int × Int, P (.inl s) → Sem g d YX16_isTrue 8 [(1, 156), (0, x1), (0, s.1), (0, s.2), (9, 0)] [] (wr M V) o) (r0 : ∀ r : Int, P (.inr r) → o = ((0, r), (wr M V))) {z : (Int × Int) ⊕ (Int)} (h : b_X16_isTrue_8 x1 x2 x3 V = some z) (hz : P z) : Sem g d YX16_isTrue 8 [(1, 156), (0, x1), (0, x2), (0, x3), (9, 0)] [] (wr M V) o := by
  delta b_X16_isTrue_8 at h
  refine S_iload_n (i := 3) dX16_isTrue_8 rfl rfl ?_
  refine S_sipush (z := 1100) dX16_isTrue_9 rfl ?_
  refine S_iload_n (i := 1) dX16_isTrue_12 rfl rfl ?_
  refine S_imul dX16_isTrue_13 ?_
  refine S_aload_n (i := 0) dX16_isTrue_14 rfl rfl ?_
  refine P2_gfr hM (a := 189) FLX16_110 rfl ⟨rfl, rfl⟩ dX16_isTrue_15 ?_
  refine S_iload_n (i := 1) dX16_isTrue_18 rfl rfl ?_
  refine P2_lai hM (a := 189) (n := 32) rfl dX16_isTrue_19 h (fun v1 h => ?_)
  refine S_iadd dX16_isTrue_20 ?_
  refine P_icmp_ge (tgt := 91) dX16_isTrue_21 rfl h (fun h => ?_) (fun h => ?_)
  · refine S_weak (ls' := [(1, 156), (0, x1), (0, x2), (9, 0), (9, 0)]) ⟨Or.inr rfl, ⟨Or.inr rfl, ⟨Or.inr rfl, ⟨Or.inl rfl, ⟨Or.inl rfl, trivial⟩⟩⟩⟩⟩ ?_
    obtain ⟨z0, h, hz⟩ := xit_some' (P := fun r => P r) h hz
    exact s_X16_isTrue_91 hD hM (P := fun r => P (.inr r)) r0 h hz
  · refine S_aload_n (i := 0) dX16_isTrue_24 rfl rfl ?_
    refine P2_gfr hM (a := 191) FLX16_118 rfl ⟨rfl, rfl⟩ dX16_isTrue_25 ?_
    refine S_iload_n (i := 3) dX16_isTrue_28 rfl rfl ?_
    refine P2_lai hM (a := 191) (n := 35200) rfl dX16_isTrue_29 h (fun v2 h => ?_)
    refine S_istore dX16_isTrue_30 (Nat.le_of_ble_eq_true rfl) rfl rfl ?_
    change Sem g d YX16_isTrue 32 [(1, 156), (0, x1), (0, x2), (0, x3), (0, v2)] [] (wr M V) o
    refine S_iload_n (i := 2) dX16_isTrue_32 rfl rfl ?_
    refine P_if_eq (tgt := 83) dX16_isTrue_33 rfl h (fun h => ?_) (fun h => ?_)
    · refine S_weak (ls' := [(1, 156), (0, x1), (9, 0), (0, x3), (9, 0)]) ⟨Or.inr rfl, ⟨Or.inr rfl, ⟨Or.inl rfl, ⟨Or.inr rfl, ⟨Or.inl rfl, trivial⟩⟩⟩⟩⟩ ?_
      exact s_X16_isTrue_83 hD hM c0 r0 h hz
    · refine S_aload_n (i := 0) dX16_isTrue_36 rfl rfl ?_
      refine S_iload dX16_isTrue_37 rfl ?_
      refine P2_invVp hM 0 [(0, v2)] [] CVX16_lives MLX16_729 dX16_isTrue_39 rfl rfl rfl rfl rfl (by omega) h (fun r h => F_X16_lives (by omega) hM h) (fun v3 h => ?_)
      refine P_if_eq (tgt := 83) dX16_isTrue_42 rfl h (fun h => ?_) (fun h => ?_)
      · refine S_weak (ls' := [(1, 156), (0, x1), (9, 0), (0, x3), (9, 0)]) ⟨Or.inr rfl, ⟨Or.inr rfl, ⟨Or.inl rfl, ⟨Or.inr rfl, ⟨Or.inl rfl, trivial⟩⟩⟩⟩⟩ ?_
        exact s_X16_isTrue_83 hD hM c0 r0 h hz
      · refine S_aload_n (i := 0) dX16_isTrue_45 rfl rfl ?_
        refine P2_gfr hM (a := 190) FLX16_114 rfl ⟨rfl, rfl⟩ dX16_isTrue_46 ?_
        refine S_iconst dX16_isTrue_49 rfl ?_
        refine S_iload_n (i := 3) dX16_isTrue_50 rfl rfl ?_
        refine S_imul dX16_isTrue_51 ?_
        refine S_aload_n (i := 0) dX16_isTrue_52 rfl rfl ?_
        refine P2_gfr hM (a := 165) FLX16_36 rfl ⟨rfl, rfl⟩ dX16_isTrue_53 ?_
        refine S_iconst dX16_isTrue_56 rfl ?_
        refine S_aload_n (i := 0) dX16_isTrue_57 rfl rfl ?_
        refine S_iload dX16_isTrue_58 rfl ?_
        refine P2_invVp hM 0 [(0, v2)] [(0, 5), (1, 165), (0, 5 * x3), (1, 190)] CVX16_lives MLX16_729 dX16_isTrue_60 rfl rfl rfl rfl rfl (by omega) h (fun r h => F_X16_lives (by omega) hM h) (fun v4 h => ?_)
        refine P_if_eq (tgt := 71) dX16_isTrue_63 rfl h (fun h => ?_) (fun h => ?_)
        · refine S_iconst dX16_isTrue_71 rfl ?_
          refine S_weak (ls' := [(1, 156), (0, x1), (9, 0), (0, x3), (9, 0)]) ⟨Or.inr rfl, ⟨Or.inr rfl, ⟨Or.inl rfl, ⟨Or.inr rfl, ⟨Or.inl rfl, trivial⟩⟩⟩⟩⟩ ?_
          exact s_X16_isTrue_72 hD hM c0 r0 h hz
        · refine S_iload dX16_isTrue_66 rfl ?_
          refine S_goto (tgt := 72) dX16_isTrue_68 rfl ?_
          refine S_weak (ls' := [(1, 156), (0, x1), (9, 0), (0, x3), (9, 0)]) ⟨Or.inr rfl, ⟨Or.inr rfl, ⟨Or.inl rfl, ⟨Or.inr rfl, ⟨Or.inl rfl, trivial⟩⟩⟩⟩⟩ ?_
          exact s_X16_isTrue_72 hD hM c0 r0 h hz
theorem sl_X16_isTrue_8 {g : GG} {d : Nat} (hD : 2 ≤ d) {x1 x2 x3 : Int} {M : MM} (hM : LM M) {V : VV} {o : AV × MM} {P : (Int) → Prop} (r0 : ∀ r : Int, P r → o = ((0, r), (wr M V))) {z : Int} (h : l_X16_isTrue_8 x1 x2 x3 V = some z) (hz : P z) : Sem g d YX16_isTrue 8 [(1, 156), (0, x1), (0, x2), (0, x3), (9, 0)] [] (wr M V) o := by
  refine lp_sound (S := fun s : Int × Int => Sem g d YX16_isTrue 8 [(1, 156), (0, x1), (0, s.1), (0, s.2), (9, 0)] [] (wr M V) o) (P := P) ?_ FU (x2, x3) z h hz
  intro s x hx hP
  exact s_X16_isTrue_8 hD hM (P := Sum.elim (fun s : Int × Int => Sem g d YX16_isTrue 8 [(1, 156), (0, x1), (0, s.1), (0, s.2), (9, 0)] [] (wr M V) o) P) (fun s h => h) (fun s h => r0 s h) hx hP
theorem s_X16_isTrue_0 {g : GG} {d : Nat} (hD : 2 ≤ d) {x1 : Int} {M : MM} (hM : LM M) {V : VV} {o : AV × MM} {P : (Int) → Prop} (r0 : ∀ r : Int, P r → o = ((0, r), (wr M V))) {z : Int} (h : f_X16_isTrue x1 V = some z) (hz : P z) : Sem g d YX16_isTrue 0 [(1, 156), (0, x1), (9, 0), (9, 0), (9, 0)] [] (wr M V) o := by
  delta f_X16_isTrue at h
  refine S_iconst dX16_isTrue_0 rfl ?_
  refine S_istore_n (i := 2) dX16_isTrue_1 rfl (Nat.le_of_ble_eq_true rfl) rfl rfl ?_
  change Sem g d YX16_isTrue 2 [(1, 156), (0, x1), (0, 1), (9, 0), (9, 0)] [] (wr M V) o
  refine S_sipush (z := 1100) dX16_isTrue_2 rfl ?_
  refine S_iload_n (i := 1) dX16_isTrue_5 rfl rfl ?_
  refine S_imul dX16_isTrue_6 ?_
  refine S_istore_n (i := 3) dX16_isTrue_7 rfl (Nat.le_of_ble_eq_true rfl) rfl rfl ?_
  change Sem g d YX16_isTrue 8 [(1, 156), (0, x1), (0, 1), (0, 1100 * x1), (9, 0)] [] (wr M V) o
  exact sl_X16_isTrue_8 hD hM r0 h hz
theorem F_X16_isTrue {g : GG} {d : Nat} (hD : 2 ≤ d) {x1 : Int} {M : MM} (hM : LM M) {V : VV} {r : Int} (h : f_X16_isTrue x1 V = some r) : Sem g d YX16_isTrue 0 (ini YX16_isTrue [(1, 156), (0, x1)]) [] (wr M V) ((0, r), (wr M V)) := by
  change Sem g d YX16_isTrue 0 [(1, 156), (0, x1), (9, 0), (9, 0), (9, 0)] [] (wr M V) ((0, r), (wr M V))
  exact s_X16_isTrue_0 hD hM (P := fun x => x = r) (fun q e => by rw [e]) h rfl
/-! PeerSearchModel.stable()Z -/
theorem dX16_stable_0 : decode cX16_stable 0 = .ok (.aload_n 0, 1) := by decide +kernel
theorem dX16_stable_1 : decode cX16_stable 1 = .ok (.getfield 464, 3) := by decide +kernel
theorem dX16_stable_4 : decode cX16_stable 4 = .ok (.ifCond .ne 47, 3) := by decide +kernel
theorem dX16_stable_7 : decode cX16_stable 7 = .ok (.aload_n 0, 1) := by decide +kernel
theorem dX16_stable_8 : decode cX16_stable 8 = .ok (.invokevirtual 828, 3) := by decide +kernel
theorem dX16_stable_11 : decode cX16_stable 11 = .ok (.ifCond .ne 40, 3) := by decide +kernel
theorem dX16_stable_14 : decode cX16_stable 14 = .ok (.aload_n 0, 1) := by decide +kernel
theorem dX16_stable_15 : decode cX16_stable 15 = .ok (.getfield 25, 3) := by decide +kernel
theorem dX16_stable_18 : decode cX16_stable 18 = .ok (.iconst 0, 1) := by decide +kernel
theorem dX16_stable_19 : decode cX16_stable 19 = .ok (.iaload, 1) := by decide +kernel
theorem dX16_stable_20 : decode cX16_stable 20 = .ok (.ifCond .ne 31, 3) := by decide +kernel
theorem dX16_stable_23 : decode cX16_stable 23 = .ok (.iconst 2, 1) := by decide +kernel
theorem dX16_stable_24 : decode cX16_stable 24 = .ok (.aload_n 0, 1) := by decide +kernel
theorem dX16_stable_25 : decode cX16_stable 25 = .ok (.getfield 25, 3) := by decide +kernel
theorem dX16_stable_28 : decode cX16_stable 28 = .ok (.iconst 1, 1) := by decide +kernel
theorem dX16_stable_29 : decode cX16_stable 29 = .ok (.iaload, 1) := by decide +kernel
theorem dX16_stable_30 : decode cX16_stable 30 = .ok (.aload_n 0, 1) := by decide +kernel
theorem dX16_stable_31 : decode cX16_stable 31 = .ok (.getfield 25, 3) := by decide +kernel
theorem dX16_stable_34 : decode cX16_stable 34 = .ok (.iconst 2, 1) := by decide +kernel
theorem dX16_stable_35 : decode cX16_stable 35 = .ok (.iaload, 1) := by decide +kernel
theorem dX16_stable_36 : decode cX16_stable 36 = .ok (.iadd, 1) := by decide +kernel
theorem dX16_stable_37 : decode cX16_stable 37 = .ok (.imul, 1) := by decide +kernel
theorem dX16_stable_38 : decode cX16_stable 38 = .ok (.aload_n 0, 1) := by decide +kernel
theorem dX16_stable_39 : decode cX16_stable 39 = .ok (.getfield 25, 3) := by decide +kernel
theorem dX16_stable_42 : decode cX16_stable 42 = .ok (.iconst 4, 1) := by decide +kernel
theorem dX16_stable_43 : decode cX16_stable 43 = .ok (.iaload, 1) := by decide +kernel
theorem dX16_stable_44 : decode cX16_stable 44 = .ok (.if_icmp .ge 7, 3) := by decide +kernel
theorem dX16_stable_47 : decode cX16_stable 47 = .ok (.iconst 1, 1) := by decide +kernel
theorem dX16_stable_48 : decode cX16_stable 48 = .ok (.goto 4, 3) := by decide +kernel
theorem dX16_stable_51 : decode cX16_stable 51 = .ok (.iconst 0, 1) := by decide +kernel
theorem dX16_stable_52 : decode cX16_stable 52 = .ok (.istore_n 1, 1) := by decide +kernel
theorem dX16_stable_53 : decode cX16_stable 53 = .ok (.iconst (-1), 1) := by decide +kernel
theorem dX16_stable_54 : decode cX16_stable 54 = .ok (.istore_n 2, 1) := by decide +kernel
theorem dX16_stable_55 : decode cX16_stable 55 = .ok (.iconst 0, 1) := by decide +kernel
theorem dX16_stable_56 : decode cX16_stable 56 = .ok (.istore_n 3, 1) := by decide +kernel
theorem dX16_stable_57 : decode cX16_stable 57 = .ok (.iload_n 3, 1) := by decide +kernel
theorem dX16_stable_58 : decode cX16_stable 58 = .ok (.aload_n 0, 1) := by decide +kernel
theorem dX16_stable_59 : decode cX16_stable 59 = .ok (.getfield 424, 3) := by decide +kernel
theorem dX16_stable_62 : decode cX16_stable 62 = .ok (.if_icmp .ge 69, 3) := by decide +kernel
theorem dX16_stable_65 : decode cX16_stable 65 = .ok (.aload_n 0, 1) := by decide +kernel
theorem dX16_stable_66 : decode cX16_stable 66 = .ok (.getfield 42, 3) := by decide +kernel
theorem dX16_stable_69 : decode cX16_stable 69 = .ok (.iload_n 3, 1) := by decide +kernel
theorem dX16_stable_70 : decode cX16_stable 70 = .ok (.iaload, 1) := by decide +kernel
theorem dX16_stable_71 : decode cX16_stable 71 = .ok (.iconst 1, 1) := by decide +kernel
theorem dX16_stable_72 : decode cX16_stable 72 = .ok (.if_icmp .eq 6, 3) := by decide +kernel
theorem dX16_stable_75 : decode cX16_stable 75 = .ok (.goto 50, 3) := by decide +kernel
theorem dX16_stable_78 : decode cX16_stable 78 = .ok (.iload_n 1, 1) := by decide +kernel
theorem dX16_stable_79 : decode cX16_stable 79 = .ok (.ifCond .eq 37, 3) := by decide +kernel
theorem dX16_stable_82 : decode cX16_stable 82 = .ok (.aload_n 0, 1) := by decide +kernel
theorem dX16_stable_83 : decode cX16_stable 83 = .ok (.iload_n 3, 1) := by decide +kernel
theorem dX16_stable_84 : decode cX16_stable 84 = .ok (.invokevirtual 835, 3) := by decide +kernel
theorem dX16_stable_87 : decode cX16_stable 87 = .ok (.ifCond .ne 29, 3) := by decide +kernel
theorem dX16_stable_90 : decode cX16_stable 90 = .ok (.iload_n 2, 1) := by decide +kernel
theorem dX16_stable_91 : decode cX16_stable 91 = .ok (.ifCond .lt 13, 3) := by decide +kernel
theorem dX16_stable_94 : decode cX16_stable 94 = .ok (.iload_n 2, 1) := by decide +kernel
theorem dX16_stable_95 : decode cX16_stable 95 = .ok (.aload_n 0, 1) := by decide +kernel
theorem dX16_stable_96 : decode cX16_stable 96 = .ok (.getfield 39, 3) := by decide +kernel
theorem dX16_stable_99 : decode cX16_stable 99 = .ok (.iload_n 3, 1) := by decide +kernel
theorem dX16_stable_100 : decode cX16_stable 100 = .ok (.iaload, 1) := by decide +kernel
theorem dX16_stable_101 : decode cX16_stable 101 = .ok (.if_icmp .ne 15, 3) := by decide +kernel
theorem dX16_stable_104 : decode cX16_stable 104 = .ok (.aload_n 0, 1) := by decide +kernel
theorem dX16_stable_105 : decode cX16_stable 105 = .ok (.iload_n 3, 1) := by decide +kernel
theorem dX16_stable_106 : decode cX16_stable 106 = .ok (.invokevirtual 844, 3) := by decide +kernel
theorem dX16_stable_109 : decode cX16_stable 109 = .ok (.ifCond .eq 7, 3) := by decide +kernel
theorem dX16_stable_112 : decode cX16_stable 112 = .ok (.iconst 1, 1) := by decide +kernel
theorem dX16_stable_113 : decode cX16_stable 113 = .ok (.goto 4, 3) := by decide +kernel
theorem dX16_stable_116 : decode cX16_stable 116 = .ok (.iconst 0, 1) := by decide +kernel
theorem dX16_stable_117 : decode cX16_stable 117 = .ok (.istore_n 1, 1) := by decide +kernel
theorem dX16_stable_118 : decode cX16_stable 118 = .ok (.aload_n 0, 1) := by decide +kernel
theorem dX16_stable_119 : decode cX16_stable 119 = .ok (.getfield 39, 3) := by decide +kernel
theorem dX16_stable_122 : decode cX16_stable 122 = .ok (.iload_n 3, 1) := by decide +kernel
theorem dX16_stable_123 : decode cX16_stable 123 = .ok (.iaload, 1) := by decide +kernel
theorem dX16_stable_124 : decode cX16_stable 124 = .ok (.istore_n 2, 1) := by decide +kernel
theorem dX16_stable_125 : decode cX16_stable 125 = .ok (.iinc 3 1, 3) := by decide +kernel
theorem dX16_stable_128 : decode cX16_stable 128 = .ok (.goto (-71), 3) := by decide +kernel
theorem dX16_stable_131 : decode cX16_stable 131 = .ok (.iload_n 1, 1) := by decide +kernel
theorem dX16_stable_132 : decode cX16_stable 132 = .ok (.ireturn, 1) := by decide +kernel
def j_X16_stable_125 (x1 x2 x3 : Int) (V : VV) : Option ((Int × Int × Int) ⊕ (Int)) :=
  cnt (x1, x2, x3 + 1)
def j_X16_stable_117 (x3 y0 : Int) (V : VV) : Option ((Int × Int × Int) ⊕ (Int)) :=
  (l2 166 32 x3 V).bind fun v1 =>
  j_X16_stable_125 y0 v1 x3 V
def j_X16_stable_116 (x3 : Int) (V : VV) : Option ((Int × Int × Int) ⊕ (Int)) :=
  j_X16_stable_117 x3 0 V
def j_X16_stable_104 (x3 : Int) (V : VV) : Option ((Int × Int × Int) ⊕ (Int)) :=
  (f_X16_isTrue x3 V).bind fun v1 =>
  if w32 v1 = 0 then
    j_X16_stable_116 x3 V
  else
    j_X16_stable_117 x3 1 V
def b_X16_stable_57 (x1 x2 x3 : Int) (V : VV) : Option ((Int × Int × Int) ⊕ (Int)) :=
  if w32 x3 < w32 (w32 (V 156 13)) then
    (l2 167 32 x3 V).bind fun v1 =>
    if w32 v1 = w32 1 then
      if w32 x1 = 0 then
        j_X16_stable_116 x3 V
      else
        (f_X16_waiting x3 V).bind fun v2 =>
        if w32 v2 = 0 then
          if w32 x2 < 0 then
            j_X16_stable_104 x3 V
          else
            (l2 166 32 x3 V).bind fun v3 =>
            if w32 x2 = w32 v3 then
              j_X16_stable_104 x3 V
            else
              j_X16_stable_116 x3 V
        else
          j_X16_stable_116 x3 V
    else
      j_X16_stable_125 x1 x2 x3 V
  else
    xit (bz x1 (some x1))
def l_X16_stable_57 (x1 x2 x3 : Int) (V : VV) : Option (Int) := lpN (fun s : Int × Int × Int => b_X16_stable_57 s.1 s.2.1 s.2.2 V) FU (x1, x2, x3)
def j_X16_stable_52 (y0 : Int) (V : VV) : Option (Int) :=
  l_X16_stable_57 y0 (-1) 0 V
def j_X16_stable_51 (V : VV) : Option (Int) :=
  j_X16_stable_52 0 V
def f_X16_stable (V : VV) : Option (Int) :=
  if w32 (w32 (V 156 32)) = 0 then
    (f_X16_going V).bind fun v1 =>
    if w32 v1 = 0 then
      (l2 162 11 0 V).bind fun v2 =>
      if w32 v2 = 0 then
        (l2 162 11 1 V).bind fun v3 =>
        (l2 162 11 2 V).bind fun v4 =>
        (l2 162 11 4 V).bind fun v5 =>
        if w32 (2 * (v3 + v4)) < w32 v5 then
          j_X16_stable_52 1 V
        else
          j_X16_stable_51 V
      else
        j_X16_stable_51 V
    else
      j_X16_stable_51 V
  else
    j_X16_stable_51 V
theorem s_X16_stable_125 {g : GG} {d : Nat} (hD : 3 ≤ d) {x1 x2 x3 : Int} {M : MM} (hM : LM M) {V : VV} {o : AV × MM} {P : ((Int × Int × Int) ⊕ (Int)) → Prop} (c0 : ∀ s : Int × Int × Int, P (.inl s) → Sem g d YX16_stable 57 [(1, 156), (0, s.1), (0, s.2.1), (0, s.2.2)] [] (wr M V) o) (r0 : ∀ r : Int, P (.inr r) → o = ((0, r), (wr M V))) {z : (Int × Int × Int) ⊕ (Int)} (h : j_X16_stable_125 x1 x2 x3 V = some z) (hz : P z) : Sem g d YX16_stable 125 [(1, 156), (0, x1), (0, x2), (0, x3)] [] (wr M V) o := by
  delta j_X16_stable_125 at h
  refine S_iinc dX16_stable_125 rfl rfl rfl ?_
  change Sem g d YX16_stable 128 [(1, 156), (0, x1), (0, x2), (0, x3 + 1)] [] (wr M V) o
  refine S_goto (tgt := 57) dX16_stable_128 rfl ?_
  exact c0 (x1, x2, x3 + 1) (some_P (P := fun r => P r) h hz)
theorem s_X16_stable_117 {g : GG} {d : Nat} (hD : 3 ≤ d) {x3 y0 : Int} {M : MM} (hM : LM M) {V : VV} {o : AV × MM} {P : ((Int × Int × Int) ⊕ (Int)) → Prop} (c0 : ∀ s : Int × Int × Int, P (.inl s) → Sem g d YX16_stable 57 [(1, 156), (0, s.1), (0, s.2.1), (0, s.2.2)] [] (wr M V) o) (r0 : ∀ r : Int, P (.inr r) → o = ((0, r), (wr M V))) {z : (Int × Int × Int) ⊕ (Int)} (h : j_X16_stable_117 x3 y0 V = some z) (hz : P z) : Sem g d YX16_stable 117 [(1, 156), (9, 0), (9, 0), (0, x3)] [(0, y0)] (wr M V) o := by
  delta j_X16_stable_117 at h
  refine S_istore_n (i := 1) dX16_stable_117 rfl (Nat.le_of_ble_eq_true rfl) rfl rfl ?_
  change Sem g d YX16_stable 118 [(1, 156), (0, y0), (9, 0), (0, x3)] [] (wr M V) o
  refine S_aload_n (i := 0) dX16_stable_118 rfl rfl ?_
  refine P2_gfr hM (a := 166) FLX16_39 rfl ⟨rfl, rfl⟩ dX16_stable_119 ?_
  refine S_iload_n (i := 3) dX16_stable_122 rfl rfl ?_
  refine P2_lai hM (a := 166) (n := 32) rfl dX16_stable_123 h (fun v1 h => ?_)
  refine S_istore_n (i := 2) dX16_stable_124 rfl (Nat.le_of_ble_eq_true rfl) rfl rfl ?_
  change Sem g d YX16_stable 125 [(1, 156), (0, y0), (0, v1), (0, x3)] [] (wr M V) o
  exact s_X16_stable_125 hD hM c0 r0 h hz
theorem s_X16_stable_116 {g : GG} {d : Nat} (hD : 3 ≤ d) {x3 : Int} {M : MM} (hM : LM M) {V : VV} {o : AV × MM} {P : ((Int × Int × Int) ⊕ (Int)) → Prop} (c0 : ∀ s : Int × Int × Int, P (.inl s) → Sem g d YX16_stable 57 [(1, 156), (0, s.1), (0, s.2.1), (0, s.2.2)] [] (wr M V) o) (r0 : ∀ r : Int, P (.inr r) → o = ((0, r), (wr M V))) {z : (Int × Int × Int) ⊕ (Int)} (h : j_X16_stable_116 x3 V = some z) (hz : P z) : Sem g d YX16_stable 116 [(1, 156), (9, 0), (9, 0), (0, x3)] [] (wr M V) o := by
  delta j_X16_stable_116 at h
  refine S_iconst dX16_stable_116 rfl ?_
  exact s_X16_stable_117 hD hM c0 r0 h hz
theorem s_X16_stable_104 {g : GG} {d : Nat} (hD : 3 ≤ d) {x3 : Int} {M : MM} (hM : LM M) {V : VV} {o : AV × MM} {P : ((Int × Int × Int) ⊕ (Int)) → Prop} (c0 : ∀ s : Int × Int × Int, P (.inl s) → Sem g d YX16_stable 57 [(1, 156), (0, s.1), (0, s.2.1), (0, s.2.2)] [] (wr M V) o) (r0 : ∀ r : Int, P (.inr r) → o = ((0, r), (wr M V))) {z : (Int × Int × Int) ⊕ (Int)} (h : j_X16_stable_104 x3 V = some z) (hz : P z) : Sem g d YX16_stable 104 [(1, 156), (9, 0), (9, 0), (0, x3)] [] (wr M V) o := by
  delta j_X16_stable_104 at h
  refine S_aload_n (i := 0) dX16_stable_104 rfl rfl ?_
  refine S_iload_n (i := 3) dX16_stable_105 rfl rfl ?_
  refine P2_invVp hM 0 [(0, x3)] [] CVX16_isTrue MLX16_844 dX16_stable_106 rfl rfl rfl rfl rfl (by omega) h (fun r h => F_X16_isTrue (by omega) hM h) (fun v1 h => ?_)
  refine P_if_eq (tgt := 116) dX16_stable_109 rfl h (fun h => ?_) (fun h => ?_)
  · exact s_X16_stable_116 hD hM c0 r0 h hz
  · refine S_iconst dX16_stable_112 rfl ?_
    refine S_goto (tgt := 117) dX16_stable_113 rfl ?_
    exact s_X16_stable_117 hD hM c0 r0 h hz
theorem s_X16_stable_57 {g : GG} {d : Nat} (hD : 3 ≤ d) {x1 x2 x3 : Int} {M : MM} (hM : LM M) {V : VV} {o : AV × MM} {P : ((Int × Int × Int) ⊕ (Int)) → Prop} (c0 : ∀ s : Int × Int × Int, P (.inl s) → Sem g d YX16_stable 57 [(1, 156), (0, s.1), (0, s.2.1), (0, s.2.2)] [] (wr M V) o) (r0 : ∀ r : Int, P (.inr r) → o = ((0, r), (wr M V))) {z : (Int × Int × Int) ⊕ (Int)} (h : b_X16_stable_57 x1 x2 x3 V = some z) (hz : P z) : Sem g d YX16_stable 57 [(1, 156), (0, x1), (0, x2), (0, x3)] [] (wr M V) o := by
  delta b_X16_stable_57 at h
  refine S_iload_n (i := 3) dX16_stable_57 rfl rfl ?_
  refine S_aload_n (i := 0) dX16_stable_58 rfl rfl ?_
  refine P2_gfi hM FLX16_424 rfl dX16_stable_59 ?_
  refine P_icmp_ge (tgt := 131) dX16_stable_62 rfl h (fun h => ?_) (fun h => ?_)
  · obtain ⟨z0, h, hz⟩ := xit_some' (P := fun r => P r) h hz
    refine S_iload_n (i := 1) dX16_stable_131 rfl rfl ?_
    obtain ⟨hb, h⟩ := bz_some h
    obtain rfl := r0 _ (some_P (P := fun r => P (.inr r)) h hz)
    exact P_ret dX16_stable_132 rfl (Or.inr ⟨rfl, hb⟩)
  · refine S_aload_n (i := 0) dX16_stable_65 rfl rfl ?_
    refine P2_gfr hM (a := 167) FLX16_42 rfl ⟨rfl, rfl⟩ dX16_stable_66 ?_
    refine S_iload_n (i := 3) dX16_stable_69 rfl rfl ?_
    refine P2_lai hM (a := 167) (n := 32) rfl dX16_stable_70 h (fun v1 h => ?_)
    refine S_iconst dX16_stable_71 rfl ?_
    refine P_icmp_eq (tgt := 78) dX16_stable_72 rfl h (fun h => ?_) (fun h => ?_)
    · refine S_iload_n (i := 1) dX16_stable_78 rfl rfl ?_
      refine P_if_eq (tgt := 116) dX16_stable_79 rfl h (fun h => ?_) (fun h => ?_)
      · refine S_weak (ls' := [(1, 156), (9, 0), (9, 0), (0, x3)]) ⟨Or.inr rfl, ⟨Or.inl rfl, ⟨Or.inl rfl, ⟨Or.inr rfl, trivial⟩⟩⟩⟩ ?_
        exact s_X16_stable_116 hD hM c0 r0 h hz
      · refine S_aload_n (i := 0) dX16_stable_82 rfl rfl ?_
        refine S_iload_n (i := 3) dX16_stable_83 rfl rfl ?_
        refine P2_invVp hM 0 [(0, x3)] [] CVX16_waiting MLX16_835 dX16_stable_84 rfl rfl rfl rfl rfl (by omega) h (fun r h => F_X16_waiting (by omega) hM h) (fun v2 h => ?_)
        refine P_if_ne (tgt := 116) dX16_stable_87 rfl h (fun h => ?_) (fun h => ?_)
        · refine S_weak (ls' := [(1, 156), (9, 0), (9, 0), (0, x3)]) ⟨Or.inr rfl, ⟨Or.inl rfl, ⟨Or.inl rfl, ⟨Or.inr rfl, trivial⟩⟩⟩⟩ ?_
          exact s_X16_stable_116 hD hM c0 r0 h hz
        · refine S_iload_n (i := 2) dX16_stable_90 rfl rfl ?_
          refine P_if_lt (tgt := 104) dX16_stable_91 rfl h (fun h => ?_) (fun h => ?_)
          · refine S_weak (ls' := [(1, 156), (9, 0), (9, 0), (0, x3)]) ⟨Or.inr rfl, ⟨Or.inl rfl, ⟨Or.inl rfl, ⟨Or.inr rfl, trivial⟩⟩⟩⟩ ?_
            exact s_X16_stable_104 hD hM c0 r0 h hz
          · refine S_iload_n (i := 2) dX16_stable_94 rfl rfl ?_
            refine S_aload_n (i := 0) dX16_stable_95 rfl rfl ?_
            refine P2_gfr hM (a := 166) FLX16_39 rfl ⟨rfl, rfl⟩ dX16_stable_96 ?_
            refine S_iload_n (i := 3) dX16_stable_99 rfl rfl ?_
            refine P2_lai hM (a := 166) (n := 32) rfl dX16_stable_100 h (fun v3 h => ?_)
            refine P_icmp_ne (tgt := 116) dX16_stable_101 rfl h (fun h => ?_) (fun h => ?_)
            · refine S_weak (ls' := [(1, 156), (9, 0), (9, 0), (0, x3)]) ⟨Or.inr rfl, ⟨Or.inl rfl, ⟨Or.inl rfl, ⟨Or.inr rfl, trivial⟩⟩⟩⟩ ?_
              exact s_X16_stable_116 hD hM c0 r0 h hz
            · refine S_weak (ls' := [(1, 156), (9, 0), (9, 0), (0, x3)]) ⟨Or.inr rfl, ⟨Or.inl rfl, ⟨Or.inl rfl, ⟨Or.inr rfl, trivial⟩⟩⟩⟩ ?_
              exact s_X16_stable_104 hD hM c0 r0 h hz
    · refine S_goto (tgt := 125) dX16_stable_75 rfl ?_
      exact s_X16_stable_125 hD hM c0 r0 h hz
theorem sl_X16_stable_57 {g : GG} {d : Nat} (hD : 3 ≤ d) {x1 x2 x3 : Int} {M : MM} (hM : LM M) {V : VV} {o : AV × MM} {P : (Int) → Prop} (r0 : ∀ r : Int, P r → o = ((0, r), (wr M V))) {z : Int} (h : l_X16_stable_57 x1 x2 x3 V = some z) (hz : P z) : Sem g d YX16_stable 57 [(1, 156), (0, x1), (0, x2), (0, x3)] [] (wr M V) o := by
  refine lp_sound (S := fun s : Int × Int × Int => Sem g d YX16_stable 57 [(1, 156), (0, s.1), (0, s.2.1), (0, s.2.2)] [] (wr M V) o) (P := P) ?_ FU (x1, x2, x3) z h hz
  intro s x hx hP
  exact s_X16_stable_57 hD hM (P := Sum.elim (fun s : Int × Int × Int => Sem g d YX16_stable 57 [(1, 156), (0, s.1), (0, s.2.1), (0, s.2.2)] [] (wr M V) o) P) (fun s h => h) (fun s h => r0 s h) hx hP
theorem s_X16_stable_52 {g : GG} {d : Nat} (hD : 3 ≤ d) {y0 : Int} {M : MM} (hM : LM M) {V : VV} {o : AV × MM} {P : (Int) → Prop} (r0 : ∀ r : Int, P r → o = ((0, r), (wr M V))) {z : Int} (h : j_X16_stable_52 y0 V = some z) (hz : P z) : Sem g d YX16_stable 52 [(1, 156), (9, 0), (9, 0), (9, 0)] [(0, y0)] (wr M V) o := by
  delta j_X16_stable_52 at h
  refine S_istore_n (i := 1) dX16_stable_52 rfl (Nat.le_of_ble_eq_true rfl) rfl rfl ?_
  change Sem g d YX16_stable 53 [(1, 156), (0, y0), (9, 0), (9, 0)] [] (wr M V) o
  refine S_iconst dX16_stable_53 rfl ?_
  refine S_istore_n (i := 2) dX16_stable_54 rfl (Nat.le_of_ble_eq_true rfl) rfl rfl ?_
  change Sem g d YX16_stable 55 [(1, 156), (0, y0), (0, (-1)), (9, 0)] [] (wr M V) o
  refine S_iconst dX16_stable_55 rfl ?_
  refine S_istore_n (i := 3) dX16_stable_56 rfl (Nat.le_of_ble_eq_true rfl) rfl rfl ?_
  change Sem g d YX16_stable 57 [(1, 156), (0, y0), (0, (-1)), (0, 0)] [] (wr M V) o
  exact sl_X16_stable_57 hD hM r0 h hz
theorem s_X16_stable_51 {g : GG} {d : Nat} (hD : 3 ≤ d) {M : MM} (hM : LM M) {V : VV} {o : AV × MM} {P : (Int) → Prop} (r0 : ∀ r : Int, P r → o = ((0, r), (wr M V))) {z : Int} (h : j_X16_stable_51 V = some z) (hz : P z) : Sem g d YX16_stable 51 [(1, 156), (9, 0), (9, 0), (9, 0)] [] (wr M V) o := by
  delta j_X16_stable_51 at h
  refine S_iconst dX16_stable_51 rfl ?_
  exact s_X16_stable_52 hD hM r0 h hz
theorem s_X16_stable_0 {g : GG} {d : Nat} (hD : 3 ≤ d) {M : MM} (hM : LM M) {V : VV} {o : AV × MM} {P : (Int) → Prop} (r0 : ∀ r : Int, P r → o = ((0, r), (wr M V))) {z : Int} (h : f_X16_stable V = some z) (hz : P z) : Sem g d YX16_stable 0 [(1, 156), (9, 0), (9, 0), (9, 0)] [] (wr M V) o := by
  delta f_X16_stable at h
  refine S_aload_n (i := 0) dX16_stable_0 rfl rfl ?_
  refine P2_gfi hM FLX16_464 rfl dX16_stable_1 ?_
  refine P_if_ne (tgt := 51) dX16_stable_4 rfl h (fun h => ?_) (fun h => ?_)
  · exact s_X16_stable_51 hD hM r0 h hz
  · refine S_aload_n (i := 0) dX16_stable_7 rfl rfl ?_
    refine P2_invVp hM 0 [] [] CVX16_going MLX16_828 dX16_stable_8 rfl rfl rfl rfl rfl (by omega) h (fun r h => F_X16_going (by omega) hM h) (fun v1 h => ?_)
    refine P_if_ne (tgt := 51) dX16_stable_11 rfl h (fun h => ?_) (fun h => ?_)
    · exact s_X16_stable_51 hD hM r0 h hz
    · refine S_aload_n (i := 0) dX16_stable_14 rfl rfl ?_
      refine P2_gfr hM (a := 162) FLX16_25 rfl ⟨rfl, rfl⟩ dX16_stable_15 ?_
      refine S_iconst dX16_stable_18 rfl ?_
      refine P2_lai hM (a := 162) (n := 11) rfl dX16_stable_19 h (fun v2 h => ?_)
      refine P_if_ne (tgt := 51) dX16_stable_20 rfl h (fun h => ?_) (fun h => ?_)
      · exact s_X16_stable_51 hD hM r0 h hz
      · refine S_iconst dX16_stable_23 rfl ?_
        refine S_aload_n (i := 0) dX16_stable_24 rfl rfl ?_
        refine P2_gfr hM (a := 162) FLX16_25 rfl ⟨rfl, rfl⟩ dX16_stable_25 ?_
        refine S_iconst dX16_stable_28 rfl ?_
        refine P2_lai hM (a := 162) (n := 11) rfl dX16_stable_29 h (fun v3 h => ?_)
        refine S_aload_n (i := 0) dX16_stable_30 rfl rfl ?_
        refine P2_gfr hM (a := 162) FLX16_25 rfl ⟨rfl, rfl⟩ dX16_stable_31 ?_
        refine S_iconst dX16_stable_34 rfl ?_
        refine P2_lai hM (a := 162) (n := 11) rfl dX16_stable_35 h (fun v4 h => ?_)
        refine S_iadd dX16_stable_36 ?_
        refine S_imul dX16_stable_37 ?_
        refine S_aload_n (i := 0) dX16_stable_38 rfl rfl ?_
        refine P2_gfr hM (a := 162) FLX16_25 rfl ⟨rfl, rfl⟩ dX16_stable_39 ?_
        refine S_iconst dX16_stable_42 rfl ?_
        refine P2_lai hM (a := 162) (n := 11) rfl dX16_stable_43 h (fun v5 h => ?_)
        refine P_icmp_ge (tgt := 51) dX16_stable_44 rfl h (fun h => ?_) (fun h => ?_)
        · exact s_X16_stable_51 hD hM r0 h hz
        · refine S_iconst dX16_stable_47 rfl ?_
          refine S_goto (tgt := 52) dX16_stable_48 rfl ?_
          exact s_X16_stable_52 hD hM r0 h hz
theorem F_X16_stable {g : GG} {d : Nat} (hD : 3 ≤ d) {M : MM} (hM : LM M) {V : VV} {r : Int} (h : f_X16_stable V = some r) : Sem g d YX16_stable 0 (ini YX16_stable [(1, 156)]) [] (wr M V) ((0, r), (wr M V)) := by
  change Sem g d YX16_stable 0 [(1, 156), (9, 0), (9, 0), (9, 0)] [] (wr M V) ((0, r), (wr M V))
  exact s_X16_stable_0 hD hM (P := fun x => x = r) (fun q e => by rw [e]) h rfl
/-! PeerSearchModel.start(I)Z -/
theorem dX16_start_0 : decode cX16_start 0 = .ok (.aload_n 0, 1) := by decide +kernel
theorem dX16_start_1 : decode cX16_start 1 = .ok (.iload_n 1, 1) := by decide +kernel
theorem dX16_start_2 : decode cX16_start 2 = .ok (.invokevirtual 427, 3) := by decide +kernel
theorem dX16_start_5 : decode cX16_start 5 = .ok (.ifCond .eq 13, 3) := by decide +kernel
theorem dX16_start_8 : decode cX16_start 8 = .ok (.aload_n 0, 1) := by decide +kernel
theorem dX16_start_9 : decode cX16_start 9 = .ok (.getfield 42, 3) := by decide +kernel
theorem dX16_start_12 : decode cX16_start 12 = .ok (.iload_n 1, 1) := by decide +kernel
theorem dX16_start_13 : decode cX16_start 13 = .ok (.iaload, 1) := by decide +kernel
theorem dX16_start_14 : decode cX16_start 14 = .ok (.iconst 1, 1) := by decide +kernel
theorem dX16_start_15 : decode cX16_start 15 = .ok (.if_icmp .ne 5, 3) := by decide +kernel
theorem dX16_start_18 : decode cX16_start 18 = .ok (.iconst 0, 1) := by decide +kernel
theorem dX16_start_19 : decode cX16_start 19 = .ok (.ireturn, 1) := by decide +kernel
theorem dX16_start_20 : decode cX16_start 20 = .ok (.aload_n 0, 1) := by decide +kernel
theorem dX16_start_21 : decode cX16_start 21 = .ok (.iload_n 1, 1) := by decide +kernel
theorem dX16_start_22 : decode cX16_start 22 = .ok (.invokevirtual 714, 3) := by decide +kernel
theorem dX16_start_25 : decode cX16_start 25 = .ok (.iconst 1, 1) := by decide +kernel
theorem dX16_start_26 : decode cX16_start 26 = .ok (.ireturn, 1) := by decide +kernel
def j_X16_start_18 (V : VV) : Option (Int × VV) :=
  some (0, V)
def f_X16_start (x1 : Int) (V : VV) : Option (Int × VV) :=
  (f_X16_isPeer x1 V).bind fun v1 =>
  if w32 v1 = 0 then
    j_X16_start_18 V
  else
    (l2 167 32 x1 V).bind fun v2 =>
    if w32 v2 = w32 1 then
      j_X16_start_18 V
    else
      (f_X16_alive x1 V).bind fun V1 =>
      some (1, V1)
theorem s_X16_start_18 {g : GG} {d : Nat} (hD : 1 ≤ d) {M : MM} (hM : LM M) {V : VV} {o : AV × MM} {P : (Int × VV) → Prop} (r0 : ∀ r : Int × VV, P r → o = ((0, r.1), (wr M r.2))) {z : Int × VV} (h : j_X16_start_18 V = some z) (hz : P z) : Sem g d YX16_start 18 [(9, 0), (9, 0)] [] (wr M V) o := by
  delta j_X16_start_18 at h
  refine S_iconst dX16_start_18 rfl ?_
  obtain rfl := r0 _ (some_P (P := fun r => P r) h hz)
  exact P_ret dX16_start_19 rfl (Or.inr ⟨rfl, Or.inl rfl⟩)
theorem s_X16_start_0 {g : GG} {d : Nat} (hD : 1 ≤ d) {x1 : Int} {M : MM} (hM : LM M) {V : VV} {o : AV × MM} {P : (Int × VV) → Prop} (r0 : ∀ r : Int × VV, P r → o = ((0, r.1), (wr M r.2))) {z : Int × VV} (h : f_X16_start x1 V = some z) (hz : P z) : Sem g d YX16_start 0 [(1, 156), (0, x1)] [] (wr M V) o := by
  delta f_X16_start at h
  refine S_aload_n (i := 0) dX16_start_0 rfl rfl ?_
  refine S_iload_n (i := 1) dX16_start_1 rfl rfl ?_
  refine P2_invVp hM 0 [(0, x1)] [] CVX16_isPeer MLX16_427 dX16_start_2 rfl rfl rfl rfl rfl (by omega) h (fun r h => F_X16_isPeer (by omega) hM h) (fun v1 h => ?_)
  refine P_if_eq (tgt := 18) dX16_start_5 rfl h (fun h => ?_) (fun h => ?_)
  · refine S_weak (ls' := [(9, 0), (9, 0)]) ⟨Or.inl rfl, ⟨Or.inl rfl, trivial⟩⟩ ?_
    exact s_X16_start_18 hD hM r0 h hz
  · refine S_aload_n (i := 0) dX16_start_8 rfl rfl ?_
    refine P2_gfr hM (a := 167) FLX16_42 rfl ⟨rfl, rfl⟩ dX16_start_9 ?_
    refine S_iload_n (i := 1) dX16_start_12 rfl rfl ?_
    refine P2_lai hM (a := 167) (n := 32) rfl dX16_start_13 h (fun v2 h => ?_)
    refine S_iconst dX16_start_14 rfl ?_
    refine P_icmp_ne (tgt := 20) dX16_start_15 rfl h (fun h => ?_) (fun h => ?_)
    · refine S_aload_n (i := 0) dX16_start_20 rfl rfl ?_
      refine S_iload_n (i := 1) dX16_start_21 rfl rfl ?_
      refine P2_invVm hM [(0, x1)] [] CVX16_alive MLX16_714 dX16_start_22 rfl rfl rfl rfl (by omega) h (fun r h => F_X16_alive (by omega) hM h) (fun V1 h => ?_)
      refine S_iconst dX16_start_25 rfl ?_
      obtain rfl := r0 _ (some_P (P := fun r => P r) h hz)
      exact P_ret dX16_start_26 rfl (Or.inr ⟨rfl, Or.inr rfl⟩)
    · refine S_weak (ls' := [(9, 0), (9, 0)]) ⟨Or.inl rfl, ⟨Or.inl rfl, trivial⟩⟩ ?_
      exact s_X16_start_18 hD hM r0 h hz
theorem F_X16_start {g : GG} {d : Nat} (hD : 1 ≤ d) {x1 : Int} {M : MM} (hM : LM M) {V : VV} {r : Int × VV} (h : f_X16_start x1 V = some r) : Sem g d YX16_start 0 (ini YX16_start [(1, 156), (0, x1)]) [] (wr M V) ((0, r.1), (wr M r.2)) := by
  change Sem g d YX16_start 0 [(1, 156), (0, x1)] [] (wr M V) ((0, r.1), (wr M r.2))
  exact s_X16_start_0 hD hM (P := fun x => x = r) (fun q e => by rw [e]) h rfl
/-! PeerSearchModel.task(II)I -/
theorem dX16_task_0 : decode cX16_task 0 = .ok (.iload_n 1, 1) := by decide +kernel
theorem dX16_task_1 : decode cX16_task 1 = .ok (.ifCond .lt 20, 3) := by decide +kernel
theorem dX16_task_4 : decode cX16_task 4 = .ok (.iload_n 1, 1) := by decide +kernel
theorem dX16_task_5 : decode cX16_task 5 = .ok (.aload_n 0, 1) := by decide +kernel
theorem dX16_task_6 : decode cX16_task 6 = .ok (.getfield 615, 3) := by decide +kernel
theorem dX16_task_9 : decode cX16_task 9 = .ok (.if_icmp .ge 12, 3) := by decide +kernel
theorem dX16_task_12 : decode cX16_task 12 = .ok (.iload_n 2, 1) := by decide +kernel
theorem dX16_task_13 : decode cX16_task 13 = .ok (.ifCond .lt 8, 3) := by decide +kernel
theorem dX16_task_16 : decode cX16_task 16 = .ok (.iload_n 2, 1) := by decide +kernel
theorem dX16_task_17 : decode cX16_task 17 = .ok (.iconst 4, 1) := by decide +kernel
theorem dX16_task_18 : decode cX16_task 18 = .ok (.if_icmp .le 5, 3) := by decide +kernel
theorem dX16_task_21 : decode cX16_task 21 = .ok (.iconst (-1), 1) := by decide +kernel
theorem dX16_task_22 : decode cX16_task 22 = .ok (.ireturn, 1) := by decide +kernel
theorem dX16_task_23 : decode cX16_task 23 = .ok (.iload_n 2, 1) := by decide +kernel
theorem dX16_task_24 : decode cX16_task 24 = .ok (.ifCond .ne 12, 3) := by decide +kernel
theorem dX16_task_27 : decode cX16_task 27 = .ok (.aload_n 0, 1) := by decide +kernel
theorem dX16_task_28 : decode cX16_task 28 = .ok (.getfield 342, 3) := by decide +kernel
theorem dX16_task_31 : decode cX16_task 31 = .ok (.iload_n 1, 1) := by decide +kernel
theorem dX16_task_32 : decode cX16_task 32 = .ok (.iaload, 1) := by decide +kernel
theorem dX16_task_33 : decode cX16_task 33 = .ok (.goto 51, 3) := by decide +kernel
theorem dX16_task_36 : decode cX16_task 36 = .ok (.iload_n 2, 1) := by decide +kernel
theorem dX16_task_37 : decode cX16_task 37 = .ok (.iconst 1, 1) := by decide +kernel
theorem dX16_task_38 : decode cX16_task 38 = .ok (.if_icmp .ne 12, 3) := by decide +kernel
theorem dX16_task_41 : decode cX16_task 41 = .ok (.aload_n 0, 1) := by decide +kernel
theorem dX16_task_42 : decode cX16_task 42 = .ok (.getfield 345, 3) := by decide +kernel
theorem dX16_task_45 : decode cX16_task 45 = .ok (.iload_n 1, 1) := by decide +kernel
theorem dX16_task_46 : decode cX16_task 46 = .ok (.iaload, 1) := by decide +kernel
theorem dX16_task_47 : decode cX16_task 47 = .ok (.goto 37, 3) := by decide +kernel
theorem dX16_task_50 : decode cX16_task 50 = .ok (.iload_n 2, 1) := by decide +kernel
theorem dX16_task_51 : decode cX16_task 51 = .ok (.iconst 2, 1) := by decide +kernel
theorem dX16_task_52 : decode cX16_task 52 = .ok (.if_icmp .ne 12, 3) := by decide +kernel
theorem dX16_task_55 : decode cX16_task 55 = .ok (.aload_n 0, 1) := by decide +kernel
theorem dX16_task_56 : decode cX16_task 56 = .ok (.getfield 348, 3) := by decide +kernel
theorem dX16_task_59 : decode cX16_task 59 = .ok (.iload_n 1, 1) := by decide +kernel
theorem dX16_task_60 : decode cX16_task 60 = .ok (.iaload, 1) := by decide +kernel
theorem dX16_task_61 : decode cX16_task 61 = .ok (.goto 23, 3) := by decide +kernel
theorem dX16_task_64 : decode cX16_task 64 = .ok (.iload_n 2, 1) := by decide +kernel
theorem dX16_task_65 : decode cX16_task 65 = .ok (.iconst 3, 1) := by decide +kernel
theorem dX16_task_66 : decode cX16_task 66 = .ok (.if_icmp .ne 12, 3) := by decide +kernel
theorem dX16_task_69 : decode cX16_task 69 = .ok (.aload_n 0, 1) := by decide +kernel
theorem dX16_task_70 : decode cX16_task 70 = .ok (.getfield 351, 3) := by decide +kernel
theorem dX16_task_73 : decode cX16_task 73 = .ok (.iload_n 1, 1) := by decide +kernel
theorem dX16_task_74 : decode cX16_task 74 = .ok (.iaload, 1) := by decide +kernel
theorem dX16_task_75 : decode cX16_task 75 = .ok (.goto 9, 3) := by decide +kernel
theorem dX16_task_78 : decode cX16_task 78 = .ok (.aload_n 0, 1) := by decide +kernel
theorem dX16_task_79 : decode cX16_task 79 = .ok (.getfield 354, 3) := by decide +kernel
theorem dX16_task_82 : decode cX16_task 82 = .ok (.iload_n 1, 1) := by decide +kernel
theorem dX16_task_83 : decode cX16_task 83 = .ok (.iaload, 1) := by decide +kernel
theorem dX16_task_84 : decode cX16_task 84 = .ok (.ireturn, 1) := by decide +kernel
def j_X16_task_84 (y0 : Int) (V : VV) : Option (Int) :=
  some y0
def j_X16_task_21 (V : VV) : Option (Int) :=
  some (-1)
def f_X16_task (x1 x2 : Int) (V : VV) : Option (Int) :=
  if w32 x1 < 0 then
    j_X16_task_21 V
  else
    if w32 x1 < w32 (w32 (V 156 91)) then
      if w32 x2 < 0 then
        j_X16_task_21 V
      else
        if w32 4 < w32 x2 then
          j_X16_task_21 V
        else
          if w32 x2 = 0 then
            (l2 265 256 x1 V).bind fun v5 =>
            j_X16_task_84 v5 V
          else
            if w32 x2 = w32 1 then
              (l2 266 256 x1 V).bind fun v4 =>
              j_X16_task_84 v4 V
            else
              if w32 x2 = w32 2 then
                (l2 267 256 x1 V).bind fun v3 =>
                j_X16_task_84 v3 V
              else
                if w32 x2 = w32 3 then
                  (l2 268 256 x1 V).bind fun v2 =>
                  j_X16_task_84 v2 V
                else
                  (l2 269 256 x1 V).bind fun v1 =>
                  j_X16_task_84 v1 V
    else
      j_X16_task_21 V
theorem s_X16_task_84 {g : GG} {d : Nat} (hD : 0 ≤ d) {y0 : Int} {M : MM} (hM : LM M) {V : VV} {o : AV × MM} {P : (Int) → Prop} (r0 : ∀ r : Int, P r → o = ((0, r), (wr M V))) {z : Int} (h : j_X16_task_84 y0 V = some z) (hz : P z) : Sem g d YX16_task 84 [(9, 0), (9, 0), (9, 0)] [(0, y0)] (wr M V) o := by
  delta j_X16_task_84 at h
  obtain rfl := r0 _ (some_P (P := fun r => P r) h hz)
  exact P_ret dX16_task_84 rfl (Or.inl rfl)
theorem s_X16_task_21 {g : GG} {d : Nat} (hD : 0 ≤ d) {M : MM} (hM : LM M) {V : VV} {o : AV × MM} {P : (Int) → Prop} (r0 : ∀ r : Int, P r → o = ((0, r), (wr M V))) {z : Int} (h : j_X16_task_21 V = some z) (hz : P z) : Sem g d YX16_task 21 [(9, 0), (9, 0), (9, 0)] [] (wr M V) o := by
  delta j_X16_task_21 at h
  refine S_iconst dX16_task_21 rfl ?_
  obtain rfl := r0 _ (some_P (P := fun r => P r) h hz)
  exact P_ret dX16_task_22 rfl (Or.inl rfl)
theorem s_X16_task_0 {g : GG} {d : Nat} (hD : 0 ≤ d) {x1 x2 : Int} {M : MM} (hM : LM M) {V : VV} {o : AV × MM} {P : (Int) → Prop} (r0 : ∀ r : Int, P r → o = ((0, r), (wr M V))) {z : Int} (h : f_X16_task x1 x2 V = some z) (hz : P z) : Sem g d YX16_task 0 [(1, 156), (0, x1), (0, x2)] [] (wr M V) o := by
  delta f_X16_task at h
  refine S_iload_n (i := 1) dX16_task_0 rfl rfl ?_
  refine P_if_lt (tgt := 21) dX16_task_1 rfl h (fun h => ?_) (fun h => ?_)
  · refine S_weak (ls' := [(9, 0), (9, 0), (9, 0)]) ⟨Or.inl rfl, ⟨Or.inl rfl, ⟨Or.inl rfl, trivial⟩⟩⟩ ?_
    exact s_X16_task_21 hD hM r0 h hz
  · refine S_iload_n (i := 1) dX16_task_4 rfl rfl ?_
    refine S_aload_n (i := 0) dX16_task_5 rfl rfl ?_
    refine P2_gfi hM FLX16_615 rfl dX16_task_6 ?_
    refine P_icmp_ge (tgt := 21) dX16_task_9 rfl h (fun h => ?_) (fun h => ?_)
    · refine S_weak (ls' := [(9, 0), (9, 0), (9, 0)]) ⟨Or.inl rfl, ⟨Or.inl rfl, ⟨Or.inl rfl, trivial⟩⟩⟩ ?_
      exact s_X16_task_21 hD hM r0 h hz
    · refine S_iload_n (i := 2) dX16_task_12 rfl rfl ?_
      refine P_if_lt (tgt := 21) dX16_task_13 rfl h (fun h => ?_) (fun h => ?_)
      · refine S_weak (ls' := [(9, 0), (9, 0), (9, 0)]) ⟨Or.inl rfl, ⟨Or.inl rfl, ⟨Or.inl rfl, trivial⟩⟩⟩ ?_
        exact s_X16_task_21 hD hM r0 h hz
      · refine S_iload_n (i := 2) dX16_task_16 rfl rfl ?_
        refine S_iconst dX16_task_17 rfl ?_
        refine P_icmp_le (tgt := 23) dX16_task_18 rfl h (fun h => ?_) (fun h => ?_)
        · refine S_iload_n (i := 2) dX16_task_23 rfl rfl ?_
          refine P_if_ne (tgt := 36) dX16_task_24 rfl h (fun h => ?_) (fun h => ?_)
          · refine S_iload_n (i := 2) dX16_task_36 rfl rfl ?_
            refine S_iconst dX16_task_37 rfl ?_
            refine P_icmp_ne (tgt := 50) dX16_task_38 rfl h (fun h => ?_) (fun h => ?_)
            · refine S_iload_n (i := 2) dX16_task_50 rfl rfl ?_
              refine S_iconst dX16_task_51 rfl ?_
              refine P_icmp_ne (tgt := 64) dX16_task_52 rfl h (fun h => ?_) (fun h => ?_)
              · refine S_iload_n (i := 2) dX16_task_64 rfl rfl ?_
                refine S_iconst dX16_task_65 rfl ?_
                refine P_icmp_ne (tgt := 78) dX16_task_66 rfl h (fun h => ?_) (fun h => ?_)
                · refine S_aload_n (i := 0) dX16_task_78 rfl rfl ?_
                  refine P2_gfr hM (a := 269) FLX16_354 rfl ⟨rfl, rfl⟩ dX16_task_79 ?_
                  refine S_iload_n (i := 1) dX16_task_82 rfl rfl ?_
                  refine P2_lai hM (a := 269) (n := 256) rfl dX16_task_83 h (fun v1 h => ?_)
                  refine S_weak (ls' := [(9, 0), (9, 0), (9, 0)]) ⟨Or.inl rfl, ⟨Or.inl rfl, ⟨Or.inl rfl, trivial⟩⟩⟩ ?_
                  exact s_X16_task_84 hD hM r0 h hz
                · refine S_aload_n (i := 0) dX16_task_69 rfl rfl ?_
                  refine P2_gfr hM (a := 268) FLX16_351 rfl ⟨rfl, rfl⟩ dX16_task_70 ?_
                  refine S_iload_n (i := 1) dX16_task_73 rfl rfl ?_
                  refine P2_lai hM (a := 268) (n := 256) rfl dX16_task_74 h (fun v2 h => ?_)
                  refine S_goto (tgt := 84) dX16_task_75 rfl ?_
                  refine S_weak (ls' := [(9, 0), (9, 0), (9, 0)]) ⟨Or.inl rfl, ⟨Or.inl rfl, ⟨Or.inl rfl, trivial⟩⟩⟩ ?_
                  exact s_X16_task_84 hD hM r0 h hz
              · refine S_aload_n (i := 0) dX16_task_55 rfl rfl ?_
                refine P2_gfr hM (a := 267) FLX16_348 rfl ⟨rfl, rfl⟩ dX16_task_56 ?_
                refine S_iload_n (i := 1) dX16_task_59 rfl rfl ?_
                refine P2_lai hM (a := 267) (n := 256) rfl dX16_task_60 h (fun v3 h => ?_)
                refine S_goto (tgt := 84) dX16_task_61 rfl ?_
                refine S_weak (ls' := [(9, 0), (9, 0), (9, 0)]) ⟨Or.inl rfl, ⟨Or.inl rfl, ⟨Or.inl rfl, trivial⟩⟩⟩ ?_
                exact s_X16_task_84 hD hM r0 h hz
            · refine S_aload_n (i := 0) dX16_task_41 rfl rfl ?_
              refine P2_gfr hM (a := 266) FLX16_345 rfl ⟨rfl, rfl⟩ dX16_task_42 ?_
              refine S_iload_n (i := 1) dX16_task_45 rfl rfl ?_
              refine P2_lai hM (a := 266) (n := 256) rfl dX16_task_46 h (fun v4 h => ?_)
              refine S_goto (tgt := 84) dX16_task_47 rfl ?_
              refine S_weak (ls' := [(9, 0), (9, 0), (9, 0)]) ⟨Or.inl rfl, ⟨Or.inl rfl, ⟨Or.inl rfl, trivial⟩⟩⟩ ?_
              exact s_X16_task_84 hD hM r0 h hz
          · refine S_aload_n (i := 0) dX16_task_27 rfl rfl ?_
            refine P2_gfr hM (a := 265) FLX16_342 rfl ⟨rfl, rfl⟩ dX16_task_28 ?_
            refine S_iload_n (i := 1) dX16_task_31 rfl rfl ?_
            refine P2_lai hM (a := 265) (n := 256) rfl dX16_task_32 h (fun v5 h => ?_)
            refine S_goto (tgt := 84) dX16_task_33 rfl ?_
            refine S_weak (ls' := [(9, 0), (9, 0), (9, 0)]) ⟨Or.inl rfl, ⟨Or.inl rfl, ⟨Or.inl rfl, trivial⟩⟩⟩ ?_
            exact s_X16_task_84 hD hM r0 h hz
        · refine S_weak (ls' := [(9, 0), (9, 0), (9, 0)]) ⟨Or.inl rfl, ⟨Or.inl rfl, ⟨Or.inl rfl, trivial⟩⟩⟩ ?_
          exact s_X16_task_21 hD hM r0 h hz
theorem F_X16_task {g : GG} {d : Nat} (hD : 0 ≤ d) {x1 x2 : Int} {M : MM} (hM : LM M) {V : VV} {r : Int} (h : f_X16_task x1 x2 V = some r) : Sem g d YX16_task 0 (ini YX16_task [(1, 156), (0, x1), (0, x2)]) [] (wr M V) ((0, r), (wr M V)) := by
  change Sem g d YX16_task 0 [(1, 156), (0, x1), (0, x2)] [] (wr M V) ((0, r), (wr M V))
  exact s_X16_task_0 hD hM (P := fun x => x = r) (fun q e => by rw [e]) h rfl
/-! PeerSearchModel.truth(II)I -/
theorem dX16_truth_0 : decode cX16_truth 0 = .ok (.aload_n 0, 1) := by decide +kernel
theorem dX16_truth_1 : decode cX16_truth 1 = .ok (.invokevirtual 455, 3) := by decide +kernel
theorem dX16_truth_4 : decode cX16_truth 4 = .ok (.aload_n 0, 1) := by decide +kernel
theorem dX16_truth_5 : decode cX16_truth 5 = .ok (.getfield 442, 3) := by decide +kernel
theorem dX16_truth_8 : decode cX16_truth 8 = .ok (.iconst 1, 1) := by decide +kernel
theorem dX16_truth_9 : decode cX16_truth 9 = .ok (.if_icmp .lt 24, 3) := by decide +kernel
theorem dX16_truth_12 : decode cX16_truth 12 = .ok (.aload_n 0, 1) := by decide +kernel
theorem dX16_truth_13 : decode cX16_truth 13 = .ok (.getfield 442, 3) := by decide +kernel
theorem dX16_truth_16 : decode cX16_truth 16 = .ok (.iconst 3, 1) := by decide +kernel
theorem dX16_truth_17 : decode cX16_truth 17 = .ok (.if_icmp .gt 16, 3) := by decide +kernel
theorem dX16_truth_20 : decode cX16_truth 20 = .ok (.iload_n 1, 1) := by decide +kernel
theorem dX16_truth_21 : decode cX16_truth 21 = .ok (.ifCond .lt 12, 3) := by decide +kernel
theorem dX16_truth_24 : decode cX16_truth 24 = .ok (.iload_n 2, 1) := by decide +kernel
theorem dX16_truth_25 : decode cX16_truth 25 = .ok (.ifCond .lt 8, 3) := by decide +kernel
theorem dX16_truth_28 : decode cX16_truth 28 = .ok (.iload_n 2, 1) := by decide +kernel
theorem dX16_truth_29 : decode cX16_truth 29 = .ok (.iconst 2, 1) := by decide +kernel
theorem dX16_truth_30 : decode cX16_truth 30 = .ok (.if_icmp .le 5, 3) := by decide +kernel
theorem dX16_truth_33 : decode cX16_truth 33 = .ok (.iconst (-1), 1) := by decide +kernel
theorem dX16_truth_34 : decode cX16_truth 34 = .ok (.ireturn, 1) := by decide +kernel
theorem dX16_truth_35 : decode cX16_truth 35 = .ok (.iconst 0, 1) := by decide +kernel
theorem dX16_truth_36 : decode cX16_truth 36 = .ok (.istore_n 3, 1) := by decide +kernel
theorem dX16_truth_37 : decode cX16_truth 37 = .ok (.iload_n 3, 1) := by decide +kernel
theorem dX16_truth_38 : decode cX16_truth 38 = .ok (.sipush 512, 3) := by decide +kernel
theorem dX16_truth_41 : decode cX16_truth 41 = .ok (.if_icmp .ge 185, 3) := by decide +kernel
theorem dX16_truth_44 : decode cX16_truth 44 = .ok (.aload_n 0, 1) := by decide +kernel
theorem dX16_truth_45 : decode cX16_truth 45 = .ok (.getfield 373, 3) := by decide +kernel
theorem dX16_truth_48 : decode cX16_truth 48 = .ok (.iload_n 3, 1) := by decide +kernel
theorem dX16_truth_49 : decode cX16_truth 49 = .ok (.iconst 0, 1) := by decide +kernel
theorem dX16_truth_50 : decode cX16_truth 50 = .ok (.iastore, 1) := by decide +kernel
theorem dX16_truth_51 : decode cX16_truth 51 = .ok (.iload_n 3, 1) := by decide +kernel
theorem dX16_truth_52 : decode cX16_truth 52 = .ok (.bipush 16, 2) := by decide +kernel
theorem dX16_truth_54 : decode cX16_truth 54 = .ok (.idiv, 1) := by decide +kernel
theorem dX16_truth_55 : decode cX16_truth 55 = .ok (.istore 4, 2) := by decide +kernel
theorem dX16_truth_57 : decode cX16_truth 57 = .ok (.iload 4, 2) := by decide +kernel
theorem dX16_truth_59 : decode cX16_truth 59 = .ok (.aload_n 0, 1) := by decide +kernel
theorem dX16_truth_60 : decode cX16_truth 60 = .ok (.getfield 424, 3) := by decide +kernel
theorem dX16_truth_63 : decode cX16_truth 63 = .ok (.if_icmp .ge 21, 3) := by decide +kernel
theorem dX16_truth_66 : decode cX16_truth 66 = .ok (.iload_n 3, 1) := by decide +kernel
theorem dX16_truth_67 : decode cX16_truth 67 = .ok (.bipush 16, 2) := by decide +kernel
theorem dX16_truth_69 : decode cX16_truth 69 = .ok (.irem, 1) := by decide +kernel
theorem dX16_truth_70 : decode cX16_truth 70 = .ok (.aload_n 0, 1) := by decide +kernel
theorem dX16_truth_71 : decode cX16_truth 71 = .ok (.getfield 60, 3) := by decide +kernel
theorem dX16_truth_74 : decode cX16_truth 74 = .ok (.iload 4, 2) := by decide +kernel
theorem dX16_truth_76 : decode cX16_truth 76 = .ok (.iaload, 1) := by decide +kernel
theorem dX16_truth_77 : decode cX16_truth 77 = .ok (.if_icmp .ge 7, 3) := by decide +kernel
theorem dX16_truth_80 : decode cX16_truth 80 = .ok (.iconst 1, 1) := by decide +kernel
theorem dX16_truth_81 : decode cX16_truth 81 = .ok (.goto 4, 3) := by decide +kernel
theorem dX16_truth_84 : decode cX16_truth 84 = .ok (.iconst 0, 1) := by decide +kernel
theorem dX16_truth_85 : decode cX16_truth 85 = .ok (.istore 5, 2) := by decide +kernel
theorem dX16_truth_87 : decode cX16_truth 87 = .ok (.iconst 0, 1) := by decide +kernel
theorem dX16_truth_88 : decode cX16_truth 88 = .ok (.istore 6, 2) := by decide +kernel
theorem dX16_truth_90 : decode cX16_truth 90 = .ok (.iload 6, 2) := by decide +kernel
theorem dX16_truth_92 : decode cX16_truth 92 = .ok (.aload_n 0, 1) := by decide +kernel
theorem dX16_truth_93 : decode cX16_truth 93 = .ok (.getfield 442, 3) := by decide +kernel
theorem dX16_truth_96 : decode cX16_truth 96 = .ok (.if_icmp .ge 103, 3) := by decide +kernel
theorem dX16_truth_99 : decode cX16_truth 99 = .ok (.iload 5, 2) := by decide +kernel
theorem dX16_truth_101 : decode cX16_truth 101 = .ok (.ifCond .eq 98, 3) := by decide +kernel
theorem dX16_truth_104 : decode cX16_truth 104 = .ok (.aload_n 0, 1) := by decide +kernel
theorem dX16_truth_105 : decode cX16_truth 105 = .ok (.iload 4, 2) := by decide +kernel
theorem dX16_truth_107 : decode cX16_truth 107 = .ok (.aload_n 0, 1) := by decide +kernel
theorem dX16_truth_108 : decode cX16_truth 108 = .ok (.getfield 79, 3) := by decide +kernel
theorem dX16_truth_111 : decode cX16_truth 111 = .ok (.bipush 12, 2) := by decide +kernel
theorem dX16_truth_113 : decode cX16_truth 113 = .ok (.iload 6, 2) := by decide +kernel
theorem dX16_truth_115 : decode cX16_truth 115 = .ok (.imul, 1) := by decide +kernel
theorem dX16_truth_116 : decode cX16_truth 116 = .ok (.aload_n 0, 1) := by decide +kernel
theorem dX16_truth_117 : decode cX16_truth 117 = .ok (.getfield 82, 3) := by decide +kernel
theorem dX16_truth_120 : decode cX16_truth 120 = .ok (.iload 6, 2) := by decide +kernel
theorem dX16_truth_122 : decode cX16_truth 122 = .ok (.iaload, 1) := by decide +kernel
theorem dX16_truth_123 : decode cX16_truth 123 = .ok (.invokevirtual 457, 3) := by decide +kernel
theorem dX16_truth_126 : decode cX16_truth 126 = .ok (.istore 7, 2) := by decide +kernel
theorem dX16_truth_128 : decode cX16_truth 128 = .ok (.iload 7, 2) := by decide +kernel
theorem dX16_truth_130 : decode cX16_truth 130 = .ok (.ifCond .ge 7, 3) := by decide +kernel
theorem dX16_truth_133 : decode cX16_truth 133 = .ok (.iconst 0, 1) := by decide +kernel
theorem dX16_truth_134 : decode cX16_truth 134 = .ok (.goto 34, 3) := by decide +kernel
theorem dX16_truth_137 : decode cX16_truth 137 = .ok (.aload_n 0, 1) := by decide +kernel
theorem dX16_truth_138 : decode cX16_truth 138 = .ok (.getfield 76, 3) := by decide +kernel
theorem dX16_truth_141 : decode cX16_truth 141 = .ok (.sipush 1024, 3) := by decide +kernel
theorem dX16_truth_144 : decode cX16_truth 144 = .ok (.iload 4, 2) := by decide +kernel
theorem dX16_truth_146 : decode cX16_truth 146 = .ok (.imul, 1) := by decide +kernel
theorem dX16_truth_147 : decode cX16_truth 147 = .ok (.bipush 64, 2) := by decide +kernel
theorem dX16_truth_149 : decode cX16_truth 149 = .ok (.iload_n 3, 1) := by decide +kernel
theorem dX16_truth_150 : decode cX16_truth 150 = .ok (.bipush 16, 2) := by decide +kernel
theorem dX16_truth_152 : decode cX16_truth 152 = .ok (.irem, 1) := by decide +kernel
theorem dX16_truth_153 : decode cX16_truth 153 = .ok (.imul, 1) := by decide +kernel
theorem dX16_truth_154 : decode cX16_truth 154 = .ok (.iadd, 1) := by decide +kernel
theorem dX16_truth_155 : decode cX16_truth 155 = .ok (.iload 7, 2) := by decide +kernel
theorem dX16_truth_157 : decode cX16_truth 157 = .ok (.ifCond .ge 7, 3) := by decide +kernel
theorem dX16_truth_160 : decode cX16_truth 160 = .ok (.iconst 0, 1) := by decide +kernel
theorem dX16_truth_161 : decode cX16_truth 161 = .ok (.goto 5, 3) := by decide +kernel
theorem dX16_truth_164 : decode cX16_truth 164 = .ok (.iload 7, 2) := by decide +kernel
theorem dX16_truth_166 : decode cX16_truth 166 = .ok (.iadd, 1) := by decide +kernel
theorem dX16_truth_167 : decode cX16_truth 167 = .ok (.iaload, 1) := by decide +kernel
theorem dX16_truth_168 : decode cX16_truth 168 = .ok (.istore 8, 2) := by decide +kernel
theorem dX16_truth_170 : decode cX16_truth 170 = .ok (.iload 8, 2) := by decide +kernel
theorem dX16_truth_172 : decode cX16_truth 172 = .ok (.ifCond .le 7, 3) := by decide +kernel
theorem dX16_truth_175 : decode cX16_truth 175 = .ok (.iconst 1, 1) := by decide +kernel
theorem dX16_truth_176 : decode cX16_truth 176 = .ok (.goto 4, 3) := by decide +kernel
theorem dX16_truth_179 : decode cX16_truth 179 = .ok (.iconst 0, 1) := by decide +kernel
theorem dX16_truth_180 : decode cX16_truth 180 = .ok (.istore 5, 2) := by decide +kernel
theorem dX16_truth_182 : decode cX16_truth 182 = .ok (.aload_n 0, 1) := by decide +kernel
theorem dX16_truth_183 : decode cX16_truth 183 = .ok (.getfield 373, 3) := by decide +kernel
theorem dX16_truth_186 : decode cX16_truth 186 = .ok (.iload_n 3, 1) := by decide +kernel
theorem dX16_truth_187 : decode cX16_truth 187 = .ok (.dup2, 1) := by decide +kernel
theorem dX16_truth_188 : decode cX16_truth 188 = .ok (.iaload, 1) := by decide +kernel
theorem dX16_truth_189 : decode cX16_truth 189 = .ok (.iload 8, 2) := by decide +kernel
theorem dX16_truth_191 : decode cX16_truth 191 = .ok (.iadd, 1) := by decide +kernel
theorem dX16_truth_192 : decode cX16_truth 192 = .ok (.iastore, 1) := by decide +kernel
theorem dX16_truth_193 : decode cX16_truth 193 = .ok (.iinc 6 1, 3) := by decide +kernel
theorem dX16_truth_196 : decode cX16_truth 196 = .ok (.goto (-106), 3) := by decide +kernel
theorem dX16_truth_199 : decode cX16_truth 199 = .ok (.aload_n 0, 1) := by decide +kernel
theorem dX16_truth_200 : decode cX16_truth 200 = .ok (.getfield 373, 3) := by decide +kernel
theorem dX16_truth_203 : decode cX16_truth 203 = .ok (.iload_n 3, 1) := by decide +kernel
theorem dX16_truth_204 : decode cX16_truth 204 = .ok (.iload 5, 2) := by decide +kernel
theorem dX16_truth_206 : decode cX16_truth 206 = .ok (.ifCond .eq 12, 3) := by decide +kernel
theorem dX16_truth_209 : decode cX16_truth 209 = .ok (.aload_n 0, 1) := by decide +kernel
theorem dX16_truth_210 : decode cX16_truth 210 = .ok (.getfield 373, 3) := by decide +kernel
theorem dX16_truth_213 : decode cX16_truth 213 = .ok (.iload_n 3, 1) := by decide +kernel
theorem dX16_truth_214 : decode cX16_truth 214 = .ok (.iaload, 1) := by decide +kernel
theorem dX16_truth_215 : decode cX16_truth 215 = .ok (.goto 4, 3) := by decide +kernel
theorem dX16_truth_218 : decode cX16_truth 218 = .ok (.iconst 0, 1) := by decide +kernel
theorem dX16_truth_219 : decode cX16_truth 219 = .ok (.iastore, 1) := by decide +kernel
theorem dX16_truth_220 : decode cX16_truth 220 = .ok (.iinc 3 1, 3) := by decide +kernel
theorem dX16_truth_223 : decode cX16_truth 223 = .ok (.goto (-186), 3) := by decide +kernel
theorem dX16_truth_226 : decode cX16_truth 226 = .ok (.iconst 0, 1) := by decide +kernel
theorem dX16_truth_227 : decode cX16_truth 227 = .ok (.istore_n 3, 1) := by decide +kernel
theorem dX16_truth_228 : decode cX16_truth 228 = .ok (.iload_n 3, 1) := by decide +kernel
theorem dX16_truth_229 : decode cX16_truth 229 = .ok (.sipush 512, 3) := by decide +kernel
theorem dX16_truth_232 : decode cX16_truth 232 = .ok (.if_icmp .ge 122, 3) := by decide +kernel
theorem dX16_truth_235 : decode cX16_truth 235 = .ok (.iconst 0, 1) := by decide +kernel
theorem dX16_truth_236 : decode cX16_truth 236 = .ok (.istore 4, 2) := by decide +kernel
theorem dX16_truth_238 : decode cX16_truth 238 = .ok (.iconst 0, 1) := by decide +kernel
theorem dX16_truth_239 : decode cX16_truth 239 = .ok (.istore 5, 2) := by decide +kernel
theorem dX16_truth_241 : decode cX16_truth 241 = .ok (.iload 5, 2) := by decide +kernel
theorem dX16_truth_243 : decode cX16_truth 243 = .ok (.sipush 512, 3) := by decide +kernel
theorem dX16_truth_246 : decode cX16_truth 246 = .ok (.if_icmp .ge 57, 3) := by decide +kernel
theorem dX16_truth_249 : decode cX16_truth 249 = .ok (.iload 4, 2) := by decide +kernel
theorem dX16_truth_251 : decode cX16_truth 251 = .ok (.aload_n 0, 1) := by decide +kernel
theorem dX16_truth_252 : decode cX16_truth 252 = .ok (.getfield 373, 3) := by decide +kernel
theorem dX16_truth_255 : decode cX16_truth 255 = .ok (.iload 5, 2) := by decide +kernel
theorem dX16_truth_257 : decode cX16_truth 257 = .ok (.iaload, 1) := by decide +kernel
theorem dX16_truth_258 : decode cX16_truth 258 = .ok (.aload_n 0, 1) := by decide +kernel
theorem dX16_truth_259 : decode cX16_truth 259 = .ok (.getfield 373, 3) := by decide +kernel
theorem dX16_truth_262 : decode cX16_truth 262 = .ok (.iload_n 3, 1) := by decide +kernel
theorem dX16_truth_263 : decode cX16_truth 263 = .ok (.iaload, 1) := by decide +kernel
theorem dX16_truth_264 : decode cX16_truth 264 = .ok (.if_icmp .gt 25, 3) := by decide +kernel
theorem dX16_truth_267 : decode cX16_truth 267 = .ok (.aload_n 0, 1) := by decide +kernel
theorem dX16_truth_268 : decode cX16_truth 268 = .ok (.getfield 373, 3) := by decide +kernel
theorem dX16_truth_271 : decode cX16_truth 271 = .ok (.iload 5, 2) := by decide +kernel
theorem dX16_truth_273 : decode cX16_truth 273 = .ok (.iaload, 1) := by decide +kernel
theorem dX16_truth_274 : decode cX16_truth 274 = .ok (.aload_n 0, 1) := by decide +kernel
theorem dX16_truth_275 : decode cX16_truth 275 = .ok (.getfield 373, 3) := by decide +kernel
theorem dX16_truth_278 : decode cX16_truth 278 = .ok (.iload_n 3, 1) := by decide +kernel
theorem dX16_truth_279 : decode cX16_truth 279 = .ok (.iaload, 1) := by decide +kernel
theorem dX16_truth_280 : decode cX16_truth 280 = .ok (.if_icmp .ne 13, 3) := by decide +kernel
theorem dX16_truth_283 : decode cX16_truth 283 = .ok (.iload 5, 2) := by decide +kernel
theorem dX16_truth_285 : decode cX16_truth 285 = .ok (.iload_n 3, 1) := by decide +kernel
theorem dX16_truth_286 : decode cX16_truth 286 = .ok (.if_icmp .ge 7, 3) := by decide +kernel
theorem dX16_truth_289 : decode cX16_truth 289 = .ok (.iconst 1, 1) := by decide +kernel
theorem dX16_truth_290 : decode cX16_truth 290 = .ok (.goto 4, 3) := by decide +kernel
theorem dX16_truth_293 : decode cX16_truth 293 = .ok (.iconst 0, 1) := by decide +kernel
theorem dX16_truth_294 : decode cX16_truth 294 = .ok (.iadd, 1) := by decide +kernel
theorem dX16_truth_295 : decode cX16_truth 295 = .ok (.istore 4, 2) := by decide +kernel
theorem dX16_truth_297 : decode cX16_truth 297 = .ok (.iinc 5 1, 3) := by decide +kernel
theorem dX16_truth_300 : decode cX16_truth 300 = .ok (.goto (-59), 3) := by decide +kernel
theorem dX16_truth_303 : decode cX16_truth 303 = .ok (.aload_n 0, 1) := by decide +kernel
theorem dX16_truth_304 : decode cX16_truth 304 = .ok (.getfield 373, 3) := by decide +kernel
theorem dX16_truth_307 : decode cX16_truth 307 = .ok (.iload_n 3, 1) := by decide +kernel
theorem dX16_truth_308 : decode cX16_truth 308 = .ok (.iaload, 1) := by decide +kernel
theorem dX16_truth_309 : decode cX16_truth 309 = .ok (.ifCond .le 39, 3) := by decide +kernel
theorem dX16_truth_312 : decode cX16_truth 312 = .ok (.iload 4, 2) := by decide +kernel
theorem dX16_truth_314 : decode cX16_truth 314 = .ok (.iload_n 1, 1) := by decide +kernel
theorem dX16_truth_315 : decode cX16_truth 315 = .ok (.if_icmp .ne 33, 3) := by decide +kernel
theorem dX16_truth_318 : decode cX16_truth 318 = .ok (.iload_n 2, 1) := by decide +kernel
theorem dX16_truth_319 : decode cX16_truth 319 = .ok (.ifCond .ne 10, 3) := by decide +kernel
theorem dX16_truth_322 : decode cX16_truth 322 = .ok (.iload_n 3, 1) := by decide +kernel
theorem dX16_truth_323 : decode cX16_truth 323 = .ok (.bipush 16, 2) := by decide +kernel
theorem dX16_truth_325 : decode cX16_truth 325 = .ok (.idiv, 1) := by decide +kernel
theorem dX16_truth_326 : decode cX16_truth 326 = .ok (.goto 21, 3) := by decide +kernel
theorem dX16_truth_329 : decode cX16_truth 329 = .ok (.iload_n 2, 1) := by decide +kernel
theorem dX16_truth_330 : decode cX16_truth 330 = .ok (.iconst 1, 1) := by decide +kernel
theorem dX16_truth_331 : decode cX16_truth 331 = .ok (.if_icmp .ne 10, 3) := by decide +kernel
theorem dX16_truth_334 : decode cX16_truth 334 = .ok (.iload_n 3, 1) := by decide +kernel
theorem dX16_truth_335 : decode cX16_truth 335 = .ok (.bipush 16, 2) := by decide +kernel
theorem dX16_truth_337 : decode cX16_truth 337 = .ok (.irem, 1) := by decide +kernel
theorem dX16_truth_338 : decode cX16_truth 338 = .ok (.goto 9, 3) := by decide +kernel
theorem dX16_truth_341 : decode cX16_truth 341 = .ok (.aload_n 0, 1) := by decide +kernel
theorem dX16_truth_342 : decode cX16_truth 342 = .ok (.getfield 373, 3) := by decide +kernel
theorem dX16_truth_345 : decode cX16_truth 345 = .ok (.iload_n 3, 1) := by decide +kernel
theorem dX16_truth_346 : decode cX16_truth 346 = .ok (.iaload, 1) := by decide +kernel
theorem dX16_truth_347 : decode cX16_truth 347 = .ok (.ireturn, 1) := by decide +kernel
theorem dX16_truth_348 : decode cX16_truth 348 = .ok (.iinc 3 1, 3) := by decide +kernel
theorem dX16_truth_351 : decode cX16_truth 351 = .ok (.goto (-123), 3) := by decide +kernel
theorem dX16_truth_354 : decode cX16_truth 354 = .ok (.iconst (-1), 1) := by decide +kernel
theorem dX16_truth_355 : decode cX16_truth 355 = .ok (.ireturn, 1) := by decide +kernel
def j_X16_truth_348 (x1 x2 x3 : Int) (V : VV) : Option ((Int) ⊕ (Int × VV)) :=
  cnt (x3 + 1)
def j_X16_truth_347 (y0 : Int) (V : VV) : Option (Int × VV) :=
  some (y0, V)
def j_X16_truth_318 (x2 x3 : Int) (V : VV) : Option (Int × VV) :=
  if w32 x2 = 0 then
    (dvi x3 16).bind fun v3 =>
    j_X16_truth_347 v3 V
  else
    if w32 x2 = w32 1 then
      (rmi x3 16).bind fun v2 =>
      j_X16_truth_347 v2 V
    else
      (l2 275 512 x3 V).bind fun v1 =>
      j_X16_truth_347 v1 V
def j_X16_truth_303 (x1 x2 x3 x4 : Int) (V : VV) : Option ((Int) ⊕ (Int × VV)) :=
  (l2 275 512 x3 V).bind fun v1 =>
  if 0 < w32 v1 then
    if w32 x4 = w32 x1 then
      xit (j_X16_truth_318 x2 x3 V)
    else
      j_X16_truth_348 x1 x2 x3 V
  else
    j_X16_truth_348 x1 x2 x3 V
def j_X16_truth_294 (x1 x2 x3 x5 y0 y1 : Int) (V : VV) : Option ((Int × Int) ⊕ ((Int) ⊕ (Int × VV))) :=
  cnt (y0 + y1, x5 + 1)
def j_X16_truth_293 (x1 x2 x3 x5 y0 : Int) (V : VV) : Option ((Int × Int) ⊕ ((Int) ⊕ (Int × VV))) :=
  j_X16_truth_294 x1 x2 x3 x5 y0 0 V
def j_X16_truth_289 (x1 x2 x3 x5 y0 : Int) (V : VV) : Option ((Int × Int) ⊕ ((Int) ⊕ (Int × VV))) :=
  j_X16_truth_294 x1 x2 x3 x5 y0 1 V
def b_X16_truth_241 (x1 x2 x3 x4 x5 : Int) (V : VV) : Option ((Int × Int) ⊕ ((Int) ⊕ (Int × VV))) :=
  if w32 x5 < w32 512 then
    (l2 275 512 x5 V).bind fun v1 =>
    (l2 275 512 x3 V).bind fun v2 =>
    if w32 v2 < w32 v1 then
      j_X16_truth_289 x1 x2 x3 x5 x4 V
    else
      (l2 275 512 x5 V).bind fun v3 =>
      (l2 275 512 x3 V).bind fun v4 =>
      if w32 v3 = w32 v4 then
        if w32 x5 < w32 x3 then
          j_X16_truth_289 x1 x2 x3 x5 x4 V
        else
          j_X16_truth_293 x1 x2 x3 x5 x4 V
      else
        j_X16_truth_293 x1 x2 x3 x5 x4 V
  else
    xit (j_X16_truth_303 x1 x2 x3 x4 V)
def l_X16_truth_241 (x1 x2 x3 x4 x5 : Int) (V : VV) : Option ((Int) ⊕ (Int × VV)) := lpN (fun s : Int × Int => b_X16_truth_241 x1 x2 x3 s.1 s.2 V) FU (x4, x5)
def b_X16_truth_228 (x1 x2 x3 : Int) (V : VV) : Option ((Int) ⊕ (Int × VV)) :=
  if w32 x3 < w32 512 then
    l_X16_truth_241 x1 x2 x3 0 0 V
  else
    xit (some ((-1), V))
def l_X16_truth_228 (x1 x2 x3 : Int) (V : VV) : Option (Int × VV) := lpN (fun s : Int => b_X16_truth_228 x1 x2 s V) FU x3
def j_X16_truth_226 (x1 x2 : Int) (V : VV) : Option (Int × VV) :=
  l_X16_truth_228 x1 x2 0 V
def j_X16_truth_219 (x1 x2 x3 y1 y2 : Int) (V : VV) : Option ((Int × VV) ⊕ (Int × VV)) :=
  (s2 275 512 y1 y2 V).bind fun V1 =>
  cnt (x3 + 1, V1)
def j_X16_truth_199 (x1 x2 x3 x5 : Int) (V : VV) : Option ((Int × VV) ⊕ (Int × VV)) :=
  if w32 x5 = 0 then
    j_X16_truth_219 x1 x2 x3 x3 0 V
  else
    (l2 275 512 x3 V).bind fun v1 =>
    j_X16_truth_219 x1 x2 x3 x3 v1 V
def j_X16_truth_180 (x1 x2 x3 x4 x6 x8 y0 : Int) (V : VV) : Option ((Int × Int × VV) ⊕ ((Int × VV) ⊕ (Int × VV))) :=
  (l2 275 512 x3 V).bind fun v1 =>
  (s2 275 512 x3 (v1 + x8) V).bind fun V1 =>
  cnt (y0, x6 + 1, V1)
def j_X16_truth_168 (x1 x2 x3 x4 x6 y0 : Int) (V : VV) : Option ((Int × Int × VV) ⊕ ((Int × VV) ⊕ (Int × VV))) :=
  if 0 < w32 y0 then
    j_X16_truth_180 x1 x2 x3 x4 x6 y0 1 V
  else
    j_X16_truth_180 x1 x2 x3 x4 x6 y0 0 V
def j_X16_truth_166 (x1 x2 x3 x4 x6 y1 y2 : Int) (V : VV) : Option ((Int × Int × VV) ⊕ ((Int × VV) ⊕ (Int × VV))) :=
  (l2 178 32768 (y1 + y2) V).bind fun v1 =>
  j_X16_truth_168 x1 x2 x3 x4 x6 v1 V
def b_X16_truth_90 (x1 x2 x3 x4 x5 x6 : Int) (V : VV) : Option ((Int × Int × VV) ⊕ ((Int × VV) ⊕ (Int × VV))) :=
  if w32 x6 < w32 (w32 (V 156 28)) then
    if w32 x5 = 0 then
      xit (j_X16_truth_199 x1 x2 x3 x5 V)
    else
      (l2 180 250 x6 V).bind fun v1 =>
      (f_X16_termOf x4 179 (12 * x6) v1 V).bind fun v2 =>
      if w32 v2 < 0 then
        j_X16_truth_168 x1 x2 x3 x4 x6 0 V
      else
        (rmi x3 16).bind fun v3 =>
        if w32 v2 < 0 then
          j_X16_truth_166 x1 x2 x3 x4 x6 ((1024 * x4) + (64 * v3)) 0 V
        else
          j_X16_truth_166 x1 x2 x3 x4 x6 ((1024 * x4) + (64 * v3)) v2 V
  else
    xit (j_X16_truth_199 x1 x2 x3 x5 V)
def l_X16_truth_90 (x1 x2 x3 x4 x5 x6 : Int) (V : VV) : Option ((Int × VV) ⊕ (Int × VV)) := lpN (fun s : Int × Int × VV => b_X16_truth_90 x1 x2 x3 x4 s.1 s.2.1 s.2.2) FU (x5, x6, V)
def j_X16_truth_85 (x1 x2 x3 x4 y0 : Int) (V : VV) : Option ((Int × VV) ⊕ (Int × VV)) :=
  l_X16_truth_90 x1 x2 x3 x4 y0 0 V
def j_X16_truth_84 (x1 x2 x3 x4 : Int) (V : VV) : Option ((Int × VV) ⊕ (Int × VV)) :=
  j_X16_truth_85 x1 x2 x3 x4 0 V
def b_X16_truth_37 (x1 x2 x3 : Int) (V : VV) : Option ((Int × VV) ⊕ (Int × VV)) :=
  if w32 x3 < w32 512 then
    (s2 275 512 x3 0 V).bind fun V1 =>
    (dvi x3 16).bind fun v1 =>
    if w32 v1 < w32 (w32 (V1 156 13)) then
      (rmi x3 16).bind fun v2 =>
      (l2 173 32 v1 V1).bind fun v3 =>
      if w32 v2 < w32 v3 then
        j_X16_truth_85 x1 x2 x3 v1 1 V1
      else
        j_X16_truth_84 x1 x2 x3 v1 V1
    else
      j_X16_truth_84 x1 x2 x3 v1 V1
  else
    xit (j_X16_truth_226 x1 x2 V)
def l_X16_truth_37 (x1 x2 x3 : Int) (V : VV) : Option (Int × VV) := lpN (fun s : Int × VV => b_X16_truth_37 x1 x2 s.1 s.2) FU (x3, V)
def j_X16_truth_33 (V : VV) : Option (Int × VV) :=
  some ((-1), V)
def f_X16_truth (x1 x2 : Int) (V : VV) : Option (Int × VV) :=
  (f_X16_terms V).bind fun V1 =>
  if w32 (w32 (V1 156 28)) < w32 1 then
    j_X16_truth_33 V1
  else
    if w32 3 < w32 (w32 (V1 156 28)) then
      j_X16_truth_33 V1
    else
      if w32 x1 < 0 then
        j_X16_truth_33 V1
      else
        if w32 x2 < 0 then
          j_X16_truth_33 V1
        else
          if w32 2 < w32 x2 then
            j_X16_truth_33 V1
          else
            l_X16_truth_37 x1 x2 0 V1
theorem s_X16_truth_348 {g : GG} {d : Nat} (hD : 2 ≤ d) {x1 x2 x3 : Int} {M : MM} (hM : LM M) {V : VV} {o : AV × MM} {P : ((Int) ⊕ (Int × VV)) → Prop} (c0 : ∀ s : Int, P (.inl s) → Sem g d YX16_truth 228 [(1, 156), (0, x1), (0, x2), (0, s), (9, 0), (9, 0), (9, 0), (9, 0), (9, 0)] [] (wr M V) o) (r0 : ∀ r : Int × VV, P (.inr r) → o = ((0, r.1), (wr M r.2))) {z : (Int) ⊕ (Int × VV)} (h : j_X16_truth_348 x1 x2 x3 V = some z) (hz : P z) : Sem g d YX16_truth 348 [(1, 156), (0, x1), (0, x2), (0, x3), (9, 0), (9, 0), (9, 0), (9, 0), (9, 0)] [] (wr M V) o := by
  delta j_X16_truth_348 at h
  refine S_iinc dX16_truth_348 rfl rfl rfl ?_
  change Sem g d YX16_truth 351 [(1, 156), (0, x1), (0, x2), (0, x3 + 1), (9, 0), (9, 0), (9, 0), (9, 0), (9, 0)] [] (wr M V) o
  refine S_goto (tgt := 228) dX16_truth_351 rfl ?_
  exact c0 (x3 + 1) (some_P (P := fun r => P r) h hz)
theorem s_X16_truth_347 {g : GG} {d : Nat} (hD : 2 ≤ d) {y0 : Int} {M : MM} (hM : LM M) {V : VV} {o : AV × MM} {P : (Int × VV) → Prop} (r0 : ∀ r : Int × VV, P r → o = ((0, r.1), (wr M r.2))) {z : Int × VV} (h : j_X16_truth_347 y0 V = some z) (hz : P z) : Sem g d YX16_truth 347 [(9, 0), (9, 0), (9, 0), (9, 0), (9, 0), (9, 0), (9, 0), (9, 0), (9, 0)] [(0, y0)] (wr M V) o := by
  delta j_X16_truth_347 at h
  obtain rfl := r0 _ (some_P (P := fun r => P r) h hz)
  exact P_ret dX16_truth_347 rfl (Or.inl rfl)
theorem s_X16_truth_318 {g : GG} {d : Nat} (hD : 2 ≤ d) {x2 x3 : Int} {M : MM} (hM : LM M) {V : VV} {o : AV × MM} {P : (Int × VV) → Prop} (r0 : ∀ r : Int × VV, P r → o = ((0, r.1), (wr M r.2))) {z : Int × VV} (h : j_X16_truth_318 x2 x3 V = some z) (hz : P z) : Sem g d YX16_truth 318 [(1, 156), (9, 0), (0, x2), (0, x3), (9, 0), (9, 0), (9, 0), (9, 0), (9, 0)] [] (wr M V) o := by
  delta j_X16_truth_318 at h
  refine S_iload_n (i := 2) dX16_truth_318 rfl rfl ?_
  refine P_if_ne (tgt := 329) dX16_truth_319 rfl h (fun h => ?_) (fun h => ?_)
  · refine S_iload_n (i := 2) dX16_truth_329 rfl rfl ?_
    refine S_iconst dX16_truth_330 rfl ?_
    refine P_icmp_ne (tgt := 341) dX16_truth_331 rfl h (fun h => ?_) (fun h => ?_)
    · refine S_aload_n (i := 0) dX16_truth_341 rfl rfl ?_
      refine P2_gfr hM (a := 275) FLX16_373 rfl ⟨rfl, rfl⟩ dX16_truth_342 ?_
      refine S_iload_n (i := 3) dX16_truth_345 rfl rfl ?_
      refine P2_lai hM (a := 275) (n := 512) rfl dX16_truth_346 h (fun v1 h => ?_)
      refine S_weak (ls' := [(9, 0), (9, 0), (9, 0), (9, 0), (9, 0), (9, 0), (9, 0), (9, 0), (9, 0)]) ⟨Or.inl rfl, ⟨Or.inl rfl, ⟨Or.inl rfl, ⟨Or.inl rfl, ⟨Or.inl rfl, ⟨Or.inl rfl, ⟨Or.inl rfl, ⟨Or.inl rfl, ⟨Or.inl rfl, trivial⟩⟩⟩⟩⟩⟩⟩⟩⟩ ?_
      exact s_X16_truth_347 hD hM r0 h hz
    · refine S_iload_n (i := 3) dX16_truth_334 rfl rfl ?_
      refine S_bipush (z := 16) dX16_truth_335 rfl ?_
      refine P_rmi dX16_truth_337 h (fun v2 h => ?_)
      refine S_goto (tgt := 347) dX16_truth_338 rfl ?_
      refine S_weak (ls' := [(9, 0), (9, 0), (9, 0), (9, 0), (9, 0), (9, 0), (9, 0), (9, 0), (9, 0)]) ⟨Or.inl rfl, ⟨Or.inl rfl, ⟨Or.inl rfl, ⟨Or.inl rfl, ⟨Or.inl rfl, ⟨Or.inl rfl, ⟨Or.inl rfl, ⟨Or.inl rfl, ⟨Or.inl rfl, trivial⟩⟩⟩⟩⟩⟩⟩⟩⟩ ?_
      exact s_X16_truth_347 hD hM r0 h hz
  · refine S_iload_n (i := 3) dX16_truth_322 rfl rfl ?_
    refine S_bipush (z := 16) dX16_truth_323 rfl ?_
    refine P_dvi dX16_truth_325 h (fun v3 h => ?_)
    refine S_goto (tgt := 347) dX16_truth_326 rfl ?_
    refine S_weak (ls' := [(9, 0), (9, 0), (9, 0), (9, 0), (9, 0), (9, 0), (9, 0), (9, 0), (9, 0)]) ⟨Or.inl rfl, ⟨Or.inl rfl, ⟨Or.inl rfl, ⟨Or.inl rfl, ⟨Or.inl rfl, ⟨Or.inl rfl, ⟨Or.inl rfl, ⟨Or.inl rfl, ⟨Or.inl rfl, trivial⟩⟩⟩⟩⟩⟩⟩⟩⟩ ?_
    exact s_X16_truth_347 hD hM r0 h hz
theorem s_X16_truth_303 {g : GG} {d : Nat} (hD : 2 ≤ d) {x1 x2 x3 x4 : Int} {M : MM} (hM : LM M) {V : VV} {o : AV × MM} {P : ((Int) ⊕ (Int × VV)) → Prop} (c0 : ∀ s : Int, P (.inl s) → Sem g d YX16_truth 228 [(1, 156), (0, x1), (0, x2), (0, s), (9, 0), (9, 0), (9, 0), (9, 0), (9, 0)] [] (wr M V) o) (r0 : ∀ r : Int × VV, P (.inr r) → o = ((0, r.1), (wr M r.2))) {z : (Int) ⊕ (Int × VV)} (h : j_X16_truth_303 x1 x2 x3 x4 V = some z) (hz : P z) : Sem g d YX16_truth 303 [(1, 156), (0, x1), (0, x2), (0, x3), (0, x4), (9, 0), (9, 0), (9, 0), (9, 0)] [] (wr M V) o := by
  delta j_X16_truth_303 at h
  refine S_aload_n (i := 0) dX16_truth_303 rfl rfl ?_
  refine P2_gfr hM (a := 275) FLX16_373 rfl ⟨rfl, rfl⟩ dX16_truth_304 ?_
  refine S_iload_n (i := 3) dX16_truth_307 rfl rfl ?_
  refine P2_lai hM (a := 275) (n := 512) rfl dX16_truth_308 h (fun v1 h => ?_)
  refine P_if_le (tgt := 348) dX16_truth_309 rfl h (fun h => ?_) (fun h => ?_)
  · refine S_weak (ls' := [(1, 156), (0, x1), (0, x2), (0, x3), (9, 0), (9, 0), (9, 0), (9, 0), (9, 0)]) ⟨Or.inr rfl, ⟨Or.inr rfl, ⟨Or.inr rfl, ⟨Or.inr rfl, ⟨Or.inl rfl, ⟨Or.inl rfl, ⟨Or.inl rfl, ⟨Or.inl rfl, ⟨Or.inl rfl, trivial⟩⟩⟩⟩⟩⟩⟩⟩⟩ ?_
    exact s_X16_truth_348 hD hM c0 r0 h hz
  · refine S_iload dX16_truth_312 rfl ?_
    refine S_iload_n (i := 1) dX16_truth_314 rfl rfl ?_
    refine P_icmp_ne (tgt := 348) dX16_truth_315 rfl h (fun h => ?_) (fun h => ?_)
    · refine S_weak (ls' := [(1, 156), (0, x1), (0, x2), (0, x3), (9, 0), (9, 0), (9, 0), (9, 0), (9, 0)]) ⟨Or.inr rfl, ⟨Or.inr rfl, ⟨Or.inr rfl, ⟨Or.inr rfl, ⟨Or.inl rfl, ⟨Or.inl rfl, ⟨Or.inl rfl, ⟨Or.inl rfl, ⟨Or.inl rfl, trivial⟩⟩⟩⟩⟩⟩⟩⟩⟩ ?_
      exact s_X16_truth_348 hD hM c0 r0 h hz
    · refine S_weak (ls' := [(1, 156), (9, 0), (0, x2), (0, x3), (9, 0), (9, 0), (9, 0), (9, 0), (9, 0)]) ⟨Or.inr rfl, ⟨Or.inl rfl, ⟨Or.inr rfl, ⟨Or.inr rfl, ⟨Or.inl rfl, ⟨Or.inl rfl, ⟨Or.inl rfl, ⟨Or.inl rfl, ⟨Or.inl rfl, trivial⟩⟩⟩⟩⟩⟩⟩⟩⟩ ?_
      obtain ⟨z0, h, hz⟩ := xit_some' (P := fun r => P r) h hz
      exact s_X16_truth_318 hD hM (P := fun r => P (.inr r)) r0 h hz
theorem s_X16_truth_294 {g : GG} {d : Nat} (hD : 2 ≤ d) {x1 x2 x3 x5 y0 y1 : Int} {M : MM} (hM : LM M) {V : VV} {o : AV × MM} {P : ((Int × Int) ⊕ ((Int) ⊕ (Int × VV))) → Prop} (c1 : ∀ s : Int × Int, P (.inl s) → Sem g d YX16_truth 241 [(1, 156), (0, x1), (0, x2), (0, x3), (0, s.1), (0, s.2), (9, 0), (9, 0), (9, 0)] [] (wr M V) o) (c0 : ∀ s : Int, P (.inr (.inl s)) → Sem g d YX16_truth 228 [(1, 156), (0, x1), (0, x2), (0, s), (9, 0), (9, 0), (9, 0), (9, 0), (9, 0)] [] (wr M V) o) (r0 : ∀ r : Int × VV, P (.inr (.inr r)) → o = ((0, r.1), (wr M r.2))) {z : (Int × Int) ⊕ ((Int) ⊕ (Int × VV))} (h : j_X16_truth_294 x1 x2 x3 x5 y0 y1 V = some z) (hz : P z) : Sem g d YX16_truth 294 [(1, 156), (0, x1), (0, x2), (0, x3), (9, 0), (0, x5), (9, 0), (9, 0), (9, 0)] [(0, y1), (0, y0)] (wr M V) o := by
  delta j_X16_truth_294 at h
  refine S_iadd dX16_truth_294 ?_
  refine S_istore dX16_truth_295 (Nat.le_of_ble_eq_true rfl) rfl rfl ?_
  change Sem g d YX16_truth 297 [(1, 156), (0, x1), (0, x2), (0, x3), (0, y0 + y1), (0, x5), (9, 0), (9, 0), (9, 0)] [] (wr M V) o
  refine S_iinc dX16_truth_297 rfl rfl rfl ?_
  change Sem g d YX16_truth 300 [(1, 156), (0, x1), (0, x2), (0, x3), (0, y0 + y1), (0, x5 + 1), (9, 0), (9, 0), (9, 0)] [] (wr M V) o
  refine S_goto (tgt := 241) dX16_truth_300 rfl ?_
  exact c1 (y0 + y1, x5 + 1) (some_P (P := fun r => P r) h hz)
theorem s_X16_truth_293 {g : GG} {d : Nat} (hD : 2 ≤ d) {x1 x2 x3 x5 y0 : Int} {M : MM} (hM : LM M) {V : VV} {o : AV × MM} {P : ((Int × Int) ⊕ ((Int) ⊕ (Int × VV))) → Prop} (c1 : ∀ s : Int × Int, P (.inl s) → Sem g d YX16_truth 241 [(1, 156), (0, x1), (0, x2), (0, x3), (0, s.1), (0, s.2), (9, 0), (9, 0), (9, 0)] [] (wr M V) o) (c0 : ∀ s : Int, P (.inr (.inl s)) → Sem g d YX16_truth 228 [(1, 156), (0, x1), (0, x2), (0, s), (9, 0), (9, 0), (9, 0), (9, 0), (9, 0)] [] (wr M V) o) (r0 : ∀ r : Int × VV, P (.inr (.inr r)) → o = ((0, r.1), (wr M r.2))) {z : (Int × Int) ⊕ ((Int) ⊕ (Int × VV))} (h : j_X16_truth_293 x1 x2 x3 x5 y0 V = some z) (hz : P z) : Sem g d YX16_truth 293 [(1, 156), (0, x1), (0, x2), (0, x3), (9, 0), (0, x5), (9, 0), (9, 0), (9, 0)] [(0, y0)] (wr M V) o := by
  delta j_X16_truth_293 at h
  refine S_iconst dX16_truth_293 rfl ?_
  exact s_X16_truth_294 hD hM c1 c0 r0 h hz
theorem s_X16_truth_289 {g : GG} {d : Nat} (hD : 2 ≤ d) {x1 x2 x3 x5 y0 : Int} {M : MM} (hM : LM M) {V : VV} {o : AV × MM} {P : ((Int × Int) ⊕ ((Int) ⊕ (Int × VV))) → Prop} (c1 : ∀ s : Int × Int, P (.inl s) → Sem g d YX16_truth 241 [(1, 156), (0, x1), (0, x2), (0, x3), (0, s.1), (0, s.2), (9, 0), (9, 0), (9, 0)] [] (wr M V) o) (c0 : ∀ s : Int, P (.inr (.inl s)) → Sem g d YX16_truth 228 [(1, 156), (0, x1), (0, x2), (0, s), (9, 0), (9, 0), (9, 0), (9, 0), (9, 0)] [] (wr M V) o) (r0 : ∀ r : Int × VV, P (.inr (.inr r)) → o = ((0, r.1), (wr M r.2))) {z : (Int × Int) ⊕ ((Int) ⊕ (Int × VV))} (h : j_X16_truth_289 x1 x2 x3 x5 y0 V = some z) (hz : P z) : Sem g d YX16_truth 289 [(1, 156), (0, x1), (0, x2), (0, x3), (9, 0), (0, x5), (9, 0), (9, 0), (9, 0)] [(0, y0)] (wr M V) o := by
  delta j_X16_truth_289 at h
  refine S_iconst dX16_truth_289 rfl ?_
  refine S_goto (tgt := 294) dX16_truth_290 rfl ?_
  exact s_X16_truth_294 hD hM c1 c0 r0 h hz
theorem s_X16_truth_241 {g : GG} {d : Nat} (hD : 2 ≤ d) {x1 x2 x3 x4 x5 : Int} {M : MM} (hM : LM M) {V : VV} {o : AV × MM} {P : ((Int × Int) ⊕ ((Int) ⊕ (Int × VV))) → Prop} (c1 : ∀ s : Int × Int, P (.inl s) → Sem g d YX16_truth 241 [(1, 156), (0, x1), (0, x2), (0, x3), (0, s.1), (0, s.2), (9, 0), (9, 0), (9, 0)] [] (wr M V) o) (c0 : ∀ s : Int, P (.inr (.inl s)) → Sem g d YX16_truth 228 [(1, 156), (0, x1), (0, x2), (0, s), (9, 0), (9, 0), (9, 0), (9, 0), (9, 0)] [] (wr M V) o) (r0 : ∀ r : Int × VV, P (.inr (.inr r)) → o = ((0, r.1), (wr M r.2))) {z : (Int × Int) ⊕ ((Int) ⊕ (Int × VV))} (h : b_X16_truth_241 x1 x2 x3 x4 x5 V = some z) (hz : P z) : Sem g d YX16_truth 241 [(1, 156), (0, x1), (0, x2), (0, x3), (0, x4), (0, x5), (9, 0), (9, 0), (9, 0)] [] (wr M V) o := by
  delta b_X16_truth_241 at h
  refine S_iload dX16_truth_241 rfl ?_
  refine S_sipush (z := 512) dX16_truth_243 rfl ?_
  refine P_icmp_ge (tgt := 303) dX16_truth_246 rfl h (fun h => ?_) (fun h => ?_)
  · refine S_weak (ls' := [(1, 156), (0, x1), (0, x2), (0, x3), (0, x4), (9, 0), (9, 0), (9, 0), (9, 0)]) ⟨Or.inr rfl, ⟨Or.inr rfl, ⟨Or.inr rfl, ⟨Or.inr rfl, ⟨Or.inr rfl, ⟨Or.inl rfl, ⟨Or.inl rfl, ⟨Or.inl rfl, ⟨Or.inl rfl, trivial⟩⟩⟩⟩⟩⟩⟩⟩⟩ ?_
    obtain ⟨z0, h, hz⟩ := xit_some' (P := fun r => P r) h hz
    exact s_X16_truth_303 hD hM (P := fun r => P (.inr r)) c0 r0 h hz
  · refine S_iload dX16_truth_249 rfl ?_
    refine S_aload_n (i := 0) dX16_truth_251 rfl rfl ?_
    refine P2_gfr hM (a := 275) FLX16_373 rfl ⟨rfl, rfl⟩ dX16_truth_252 ?_
    refine S_iload dX16_truth_255 rfl ?_
    refine P2_lai hM (a := 275) (n := 512) rfl dX16_truth_257 h (fun v1 h => ?_)
    refine S_aload_n (i := 0) dX16_truth_258 rfl rfl ?_
    refine P2_gfr hM (a := 275) FLX16_373 rfl ⟨rfl, rfl⟩ dX16_truth_259 ?_
    refine S_iload_n (i := 3) dX16_truth_262 rfl rfl ?_
    refine P2_lai hM (a := 275) (n := 512) rfl dX16_truth_263 h (fun v2 h => ?_)
    refine P_icmp_gt (tgt := 289) dX16_truth_264 rfl h (fun h => ?_) (fun h => ?_)
    · refine S_weak (ls' := [(1, 156), (0, x1), (0, x2), (0, x3), (9, 0), (0, x5), (9, 0), (9, 0), (9, 0)]) ⟨Or.inr rfl, ⟨Or.inr rfl, ⟨Or.inr rfl, ⟨Or.inr rfl, ⟨Or.inl rfl, ⟨Or.inr rfl, ⟨Or.inl rfl, ⟨Or.inl rfl, ⟨Or.inl rfl, trivial⟩⟩⟩⟩⟩⟩⟩⟩⟩ ?_
      exact s_X16_truth_289 hD hM c1 c0 r0 h hz
    · refine S_aload_n (i := 0) dX16_truth_267 rfl rfl ?_
      refine P2_gfr hM (a := 275) FLX16_373 rfl ⟨rfl, rfl⟩ dX16_truth_268 ?_
      refine S_iload dX16_truth_271 rfl ?_
      refine P2_lai hM (a := 275) (n := 512) rfl dX16_truth_273 h (fun v3 h => ?_)
      refine S_aload_n (i := 0) dX16_truth_274 rfl rfl ?_
      refine P2_gfr hM (a := 275) FLX16_373 rfl ⟨rfl, rfl⟩ dX16_truth_275 ?_
      refine S_iload_n (i := 3) dX16_truth_278 rfl rfl ?_
      refine P2_lai hM (a := 275) (n := 512) rfl dX16_truth_279 h (fun v4 h => ?_)
      refine P_icmp_ne (tgt := 293) dX16_truth_280 rfl h (fun h => ?_) (fun h => ?_)
      · refine S_weak (ls' := [(1, 156), (0, x1), (0, x2), (0, x3), (9, 0), (0, x5), (9, 0), (9, 0), (9, 0)]) ⟨Or.inr rfl, ⟨Or.inr rfl, ⟨Or.inr rfl, ⟨Or.inr rfl, ⟨Or.inl rfl, ⟨Or.inr rfl, ⟨Or.inl rfl, ⟨Or.inl rfl, ⟨Or.inl rfl, trivial⟩⟩⟩⟩⟩⟩⟩⟩⟩ ?_
        exact s_X16_truth_293 hD hM c1 c0 r0 h hz
      · refine S_iload dX16_truth_283 rfl ?_
        refine S_iload_n (i := 3) dX16_truth_285 rfl rfl ?_
        refine P_icmp_ge (tgt := 293) dX16_truth_286 rfl h (fun h => ?_) (fun h => ?_)
        · refine S_weak (ls' := [(1, 156), (0, x1), (0, x2), (0, x3), (9, 0), (0, x5), (9, 0), (9, 0), (9, 0)]) ⟨Or.inr rfl, ⟨Or.inr rfl, ⟨Or.inr rfl, ⟨Or.inr rfl, ⟨Or.inl rfl, ⟨Or.inr rfl, ⟨Or.inl rfl, ⟨Or.inl rfl, ⟨Or.inl rfl, trivial⟩⟩⟩⟩⟩⟩⟩⟩⟩ ?_
          exact s_X16_truth_293 hD hM c1 c0 r0 h hz
        · refine S_weak (ls' := [(1, 156), (0, x1), (0, x2), (0, x3), (9, 0), (0, x5), (9, 0), (9, 0), (9, 0)]) ⟨Or.inr rfl, ⟨Or.inr rfl, ⟨Or.inr rfl, ⟨Or.inr rfl, ⟨Or.inl rfl, ⟨Or.inr rfl, ⟨Or.inl rfl, ⟨Or.inl rfl, ⟨Or.inl rfl, trivial⟩⟩⟩⟩⟩⟩⟩⟩⟩ ?_
          exact s_X16_truth_289 hD hM c1 c0 r0 h hz
theorem sl_X16_truth_241 {g : GG} {d : Nat} (hD : 2 ≤ d) {x1 x2 x3 x4 x5 : Int} {M : MM} (hM : LM M) {V : VV} {o : AV × MM} {P : ((Int) ⊕ (Int × VV)) → Prop} (c0 : ∀ s : Int, P (.inl s) → Sem g d YX16_truth 228 [(1, 156), (0, x1), (0, x2), (0, s), (9, 0), (9, 0), (9, 0), (9, 0), (9, 0)] [] (wr M V) o) (r0 : ∀ r : Int × VV, P (.inr r) → o = ((0, r.1), (wr M r.2))) {z : (Int) ⊕ (Int × VV)} (h : l_X16_truth_241 x1 x2 x3 x4 x5 V = some z) (hz : P z) : Sem g d YX16_truth 241 [(1, 156), (0, x1), (0, x2), (0, x3), (0, x4), (0, x5), (9, 0), (9, 0), (9, 0)] [] (wr M V) o := by
  refine lp_sound (S := fun s : Int × Int => Sem g d YX16_truth 241 [(1, 156), (0, x1), (0, x2), (0, x3), (0, s.1), (0, s.2), (9, 0), (9, 0), (9, 0)] [] (wr M V) o) (P := P) ?_ FU (x4, x5) z h hz
  intro s x hx hP
  exact s_X16_truth_241 hD hM (P := Sum.elim (fun s : Int × Int => Sem g d YX16_truth 241 [(1, 156), (0, x1), (0, x2), (0, x3), (0, s.1), (0, s.2), (9, 0), (9, 0), (9, 0)] [] (wr M V) o) P) (fun s h => h) (fun s h => c0 s h) (fun s h => r0 s h) hx hP
theorem s_X16_truth_228 {g : GG} {d : Nat} (hD : 2 ≤ d) {x1 x2 x3 : Int} {M : MM} (hM : LM M) {V : VV} {o : AV × MM} {P : ((Int) ⊕ (Int × VV)) → Prop} (c0 : ∀ s : Int, P (.inl s) → Sem g d YX16_truth 228 [(1, 156), (0, x1), (0, x2), (0, s), (9, 0), (9, 0), (9, 0), (9, 0), (9, 0)] [] (wr M V) o) (r0 : ∀ r : Int × VV, P (.inr r) → o = ((0, r.1), (wr M r.2))) {z : (Int) ⊕ (Int × VV)} (h : b_X16_truth_228 x1 x2 x3 V = some z) (hz : P z) : Sem g d YX16_truth 228 [(1, 156), (0, x1), (0, x2), (0, x3), (9, 0), (9, 0), (9, 0), (9, 0), (9, 0)] [] (wr M V) o := by
  delta b_X16_truth_228 at h
  refine S_iload_n (i := 3) dX16_truth_228 rfl rfl ?_
  refine S_sipush (z := 512) dX16_truth_229 rfl ?_
  refine P_icmp_ge (tgt := 354) dX16_truth_232 rfl h (fun h => ?_) (fun h => ?_)
  · obtain ⟨z0, h, hz⟩ := xit_some' (P := fun r => P r) h hz
    refine S_iconst dX16_truth_354 rfl ?_
    obtain rfl := r0 _ (some_P (P := fun r => P (.inr r)) h hz)
    exact P_ret dX16_truth_355 rfl (Or.inl rfl)
  · refine S_iconst dX16_truth_235 rfl ?_
    refine S_istore dX16_truth_236 (Nat.le_of_ble_eq_true rfl) rfl rfl ?_
    change Sem g d YX16_truth 238 [(1, 156), (0, x1), (0, x2), (0, x3), (0, 0), (9, 0), (9, 0), (9, 0), (9, 0)] [] (wr M V) o
    refine S_iconst dX16_truth_238 rfl ?_
    refine S_istore dX16_truth_239 (Nat.le_of_ble_eq_true rfl) rfl rfl ?_
    change Sem g d YX16_truth 241 [(1, 156), (0, x1), (0, x2), (0, x3), (0, 0), (0, 0), (9, 0), (9, 0), (9, 0)] [] (wr M V) o
    exact sl_X16_truth_241 hD hM c0 r0 h hz
theorem sl_X16_truth_228 {g : GG} {d : Nat} (hD : 2 ≤ d) {x1 x2 x3 : Int} {M : MM} (hM : LM M) {V : VV} {o : AV × MM} {P : (Int × VV) → Prop} (r0 : ∀ r : Int × VV, P r → o = ((0, r.1), (wr M r.2))) {z : Int × VV} (h : l_X16_truth_228 x1 x2 x3 V = some z) (hz : P z) : Sem g d YX16_truth 228 [(1, 156), (0, x1), (0, x2), (0, x3), (9, 0), (9, 0), (9, 0), (9, 0), (9, 0)] [] (wr M V) o := by
  refine lp_sound (S := fun s : Int => Sem g d YX16_truth 228 [(1, 156), (0, x1), (0, x2), (0, s), (9, 0), (9, 0), (9, 0), (9, 0), (9, 0)] [] (wr M V) o) (P := P) ?_ FU x3 z h hz
  intro s x hx hP
  exact s_X16_truth_228 hD hM (P := Sum.elim (fun s : Int => Sem g d YX16_truth 228 [(1, 156), (0, x1), (0, x2), (0, s), (9, 0), (9, 0), (9, 0), (9, 0), (9, 0)] [] (wr M V) o) P) (fun s h => h) (fun s h => r0 s h) hx hP
theorem s_X16_truth_226 {g : GG} {d : Nat} (hD : 2 ≤ d) {x1 x2 : Int} {M : MM} (hM : LM M) {V : VV} {o : AV × MM} {P : (Int × VV) → Prop} (r0 : ∀ r : Int × VV, P r → o = ((0, r.1), (wr M r.2))) {z : Int × VV} (h : j_X16_truth_226 x1 x2 V = some z) (hz : P z) : Sem g d YX16_truth 226 [(1, 156), (0, x1), (0, x2), (9, 0), (9, 0), (9, 0), (9, 0), (9, 0), (9, 0)] [] (wr M V) o := by
  delta j_X16_truth_226 at h
  refine S_iconst dX16_truth_226 rfl ?_
  refine S_istore_n (i := 3) dX16_truth_227 rfl (Nat.le_of_ble_eq_true rfl) rfl rfl ?_
  change Sem g d YX16_truth 228 [(1, 156), (0, x1), (0, x2), (0, 0), (9, 0), (9, 0), (9, 0), (9, 0), (9, 0)] [] (wr M V) o
  exact sl_X16_truth_228 hD hM r0 h hz
theorem s_X16_truth_219 {g : GG} {d : Nat} (hD : 2 ≤ d) {x1 x2 x3 y1 y2 : Int} {M : MM} (hM : LM M) {V : VV} {o : AV × MM} {P : ((Int × VV) ⊕ (Int × VV)) → Prop} (c0 : ∀ s : Int × VV, P (.inl s) → Sem g d YX16_truth 37 [(1, 156), (0, x1), (0, x2), (0, s.1), (9, 0), (9, 0), (9, 0), (9, 0), (9, 0)] [] (wr M s.2) o) (r0 : ∀ r : Int × VV, P (.inr r) → o = ((0, r.1), (wr M r.2))) {z : (Int × VV) ⊕ (Int × VV)} (h : j_X16_truth_219 x1 x2 x3 y1 y2 V = some z) (hz : P z) : Sem g d YX16_truth 219 [(1, 156), (0, x1), (0, x2), (0, x3), (9, 0), (9, 0), (9, 0), (9, 0), (9, 0)] [(0, y2), (0, y1), (1, 275)] (wr M V) o := by
  delta j_X16_truth_219 at h
  refine P2_sai hM (a := 275) (n := 512) rfl dX16_truth_219 h (fun V1 h => ?_)
  refine S_iinc dX16_truth_220 rfl rfl rfl ?_
  change Sem g d YX16_truth 223 [(1, 156), (0, x1), (0, x2), (0, x3 + 1), (9, 0), (9, 0), (9, 0), (9, 0), (9, 0)] [] (wr M V1) o
  refine S_goto (tgt := 37) dX16_truth_223 rfl ?_
  exact c0 (x3 + 1, V1) (some_P (P := fun r => P r) h hz)
theorem s_X16_truth_199 {g : GG} {d : Nat} (hD : 2 ≤ d) {x1 x2 x3 x5 : Int} {M : MM} (hM : LM M) {V : VV} {o : AV × MM} {P : ((Int × VV) ⊕ (Int × VV)) → Prop} (c0 : ∀ s : Int × VV, P (.inl s) → Sem g d YX16_truth 37 [(1, 156), (0, x1), (0, x2), (0, s.1), (9, 0), (9, 0), (9, 0), (9, 0), (9, 0)] [] (wr M s.2) o) (r0 : ∀ r : Int × VV, P (.inr r) → o = ((0, r.1), (wr M r.2))) {z : (Int × VV) ⊕ (Int × VV)} (h : j_X16_truth_199 x1 x2 x3 x5 V = some z) (hz : P z) : Sem g d YX16_truth 199 [(1, 156), (0, x1), (0, x2), (0, x3), (9, 0), (0, x5), (9, 0), (9, 0), (9, 0)] [] (wr M V) o := by
  delta j_X16_truth_199 at h
  refine S_aload_n (i := 0) dX16_truth_199 rfl rfl ?_
  refine P2_gfr hM (a := 275) FLX16_373 rfl ⟨rfl, rfl⟩ dX16_truth_200 ?_
  refine S_iload_n (i := 3) dX16_truth_203 rfl rfl ?_
  refine S_iload dX16_truth_204 rfl ?_
  refine P_if_eq (tgt := 218) dX16_truth_206 rfl h (fun h => ?_) (fun h => ?_)
  · refine S_iconst dX16_truth_218 rfl ?_
    refine S_weak (ls' := [(1, 156), (0, x1), (0, x2), (0, x3), (9, 0), (9, 0), (9, 0), (9, 0), (9, 0)]) ⟨Or.inr rfl, ⟨Or.inr rfl, ⟨Or.inr rfl, ⟨Or.inr rfl, ⟨Or.inl rfl, ⟨Or.inl rfl, ⟨Or.inl rfl, ⟨Or.inl rfl, ⟨Or.inl rfl, trivial⟩⟩⟩⟩⟩⟩⟩⟩⟩ ?_
    exact s_X16_truth_219 hD hM c0 r0 h hz
  · refine S_aload_n (i := 0) dX16_truth_209 rfl rfl ?_
    refine P2_gfr hM (a := 275) FLX16_373 rfl ⟨rfl, rfl⟩ dX16_truth_210 ?_
    refine S_iload_n (i := 3) dX16_truth_213 rfl rfl ?_
    refine P2_lai hM (a := 275) (n := 512) rfl dX16_truth_214 h (fun v1 h => ?_)
    refine S_goto (tgt := 219) dX16_truth_215 rfl ?_
    refine S_weak (ls' := [(1, 156), (0, x1), (0, x2), (0, x3), (9, 0), (9, 0), (9, 0), (9, 0), (9, 0)]) ⟨Or.inr rfl, ⟨Or.inr rfl, ⟨Or.inr rfl, ⟨Or.inr rfl, ⟨Or.inl rfl, ⟨Or.inl rfl, ⟨Or.inl rfl, ⟨Or.inl rfl, ⟨Or.inl rfl, trivial⟩⟩⟩⟩⟩⟩⟩⟩⟩ ?_
    exact s_X16_truth_219 hD hM c0 r0 h hz
theorem s_X16_truth_180 {g : GG} {d : Nat} (hD : 2 ≤ d) {x1 x2 x3 x4 x6 x8 y0 : Int} {M : MM} (hM : LM M) {V : VV} {o : AV × MM} {P : ((Int × Int × VV) ⊕ ((Int × VV) ⊕ (Int × VV))) → Prop} (c1 : ∀ s : Int × Int × VV, P (.inl s) → Sem g d YX16_truth 90 [(1, 156), (0, x1), (0, x2), (0, x3), (0, x4), (0, s.1), (0, s.2.1), (9, 0), (9, 0)] [] (wr M s.2.2) o) (c0 : ∀ s : Int × VV, P (.inr (.inl s)) → Sem g d YX16_truth 37 [(1, 156), (0, x1), (0, x2), (0, s.1), (9, 0), (9, 0), (9, 0), (9, 0), (9, 0)] [] (wr M s.2) o) (r0 : ∀ r : Int × VV, P (.inr (.inr r)) → o = ((0, r.1), (wr M r.2))) {z : (Int × Int × VV) ⊕ ((Int × VV) ⊕ (Int × VV))} (h : j_X16_truth_180 x1 x2 x3 x4 x6 x8 y0 V = some z) (hz : P z) : Sem g d YX16_truth 180 [(1, 156), (0, x1), (0, x2), (0, x3), (0, x4), (9, 0), (0, x6), (9, 0), (0, x8)] [(0, y0)] (wr M V) o := by
  delta j_X16_truth_180 at h
  refine S_istore dX16_truth_180 (Nat.le_of_ble_eq_true rfl) rfl rfl ?_
  change Sem g d YX16_truth 182 [(1, 156), (0, x1), (0, x2), (0, x3), (0, x4), (0, y0), (0, x6), (9, 0), (0, x8)] [] (wr M V) o
  refine S_aload_n (i := 0) dX16_truth_182 rfl rfl ?_
  refine P2_gfr hM (a := 275) FLX16_373 rfl ⟨rfl, rfl⟩ dX16_truth_183 ?_
  refine S_iload_n (i := 3) dX16_truth_186 rfl rfl ?_
  refine S_dup2 dX16_truth_187 (Nat.le_of_ble_eq_true rfl) (Nat.le_of_ble_eq_true rfl) ?_
  refine P2_lai hM (a := 275) (n := 512) rfl dX16_truth_188 h (fun v1 h => ?_)
  refine S_iload dX16_truth_189 rfl ?_
  refine S_iadd dX16_truth_191 ?_
  refine P2_sai hM (a := 275) (n := 512) rfl dX16_truth_192 h (fun V1 h => ?_)
  refine S_iinc dX16_truth_193 rfl rfl rfl ?_
  change Sem g d YX16_truth 196 [(1, 156), (0, x1), (0, x2), (0, x3), (0, x4), (0, y0), (0, x6 + 1), (9, 0), (0, x8)] [] (wr M V1) o
  refine S_goto (tgt := 90) dX16_truth_196 rfl ?_
  refine S_weak (ls' := [(1, 156), (0, x1), (0, x2), (0, x3), (0, x4), (0, y0), (0, x6 + 1), (9, 0), (9, 0)]) ⟨Or.inr rfl, ⟨Or.inr rfl, ⟨Or.inr rfl, ⟨Or.inr rfl, ⟨Or.inr rfl, ⟨Or.inr rfl, ⟨Or.inr rfl, ⟨Or.inl rfl, ⟨Or.inl rfl, trivial⟩⟩⟩⟩⟩⟩⟩⟩⟩ ?_
  exact c1 (y0, x6 + 1, V1) (some_P (P := fun r => P r) h hz)
theorem s_X16_truth_168 {g : GG} {d : Nat} (hD : 2 ≤ d) {x1 x2 x3 x4 x6 y0 : Int} {M : MM} (hM : LM M) {V : VV} {o : AV × MM} {P : ((Int × Int × VV) ⊕ ((Int × VV) ⊕ (Int × VV))) → Prop} (c1 : ∀ s : Int × Int × VV, P (.inl s) → Sem g d YX16_truth 90 [(1, 156), (0, x1), (0, x2), (0, x3), (0, x4), (0, s.1), (0, s.2.1), (9, 0), (9, 0)] [] (wr M s.2.2) o) (c0 : ∀ s : Int × VV, P (.inr (.inl s)) → Sem g d YX16_truth 37 [(1, 156), (0, x1), (0, x2), (0, s.1), (9, 0), (9, 0), (9, 0), (9, 0), (9, 0)] [] (wr M s.2) o) (r0 : ∀ r : Int × VV, P (.inr (.inr r)) → o = ((0, r.1), (wr M r.2))) {z : (Int × Int × VV) ⊕ ((Int × VV) ⊕ (Int × VV))} (h : j_X16_truth_168 x1 x2 x3 x4 x6 y0 V = some z) (hz : P z) : Sem g d YX16_truth 168 [(1, 156), (0, x1), (0, x2), (0, x3), (0, x4), (9, 0), (0, x6), (9, 0), (9, 0)] [(0, y0)] (wr M V) o := by
  delta j_X16_truth_168 at h
  refine S_istore dX16_truth_168 (Nat.le_of_ble_eq_true rfl) rfl rfl ?_
  change Sem g d YX16_truth 170 [(1, 156), (0, x1), (0, x2), (0, x3), (0, x4), (9, 0), (0, x6), (9, 0), (0, y0)] [] (wr M V) o
  refine S_iload dX16_truth_170 rfl ?_
  refine P_if_le (tgt := 179) dX16_truth_172 rfl h (fun h => ?_) (fun h => ?_)
  · refine S_iconst dX16_truth_179 rfl ?_
    exact s_X16_truth_180 hD hM c1 c0 r0 h hz
  · refine S_iconst dX16_truth_175 rfl ?_
    refine S_goto (tgt := 180) dX16_truth_176 rfl ?_
    exact s_X16_truth_180 hD hM c1 c0 r0 h hz
theorem s_X16_truth_166 {g : GG} {d : Nat} (hD : 2 ≤ d) {x1 x2 x3 x4 x6 y1 y2 : Int} {M : MM} (hM : LM M) {V : VV} {o : AV × MM} {P : ((Int × Int × VV) ⊕ ((Int × VV) ⊕ (Int × VV))) → Prop} (c1 : ∀ s : Int × Int × VV, P (.inl s) → Sem g d YX16_truth 90 [(1, 156), (0, x1), (0, x2), (0, x3), (0, x4), (0, s.1), (0, s.2.1), (9, 0), (9, 0)] [] (wr M s.2.2) o) (c0 : ∀ s : Int × VV, P (.inr (.inl s)) → Sem g d YX16_truth 37 [(1, 156), (0, x1), (0, x2), (0, s.1), (9, 0), (9, 0), (9, 0), (9, 0), (9, 0)] [] (wr M s.2) o) (r0 : ∀ r : Int × VV, P (.inr (.inr r)) → o = ((0, r.1), (wr M r.2))) {z : (Int × Int × VV) ⊕ ((Int × VV) ⊕ (Int × VV))} (h : j_X16_truth_166 x1 x2 x3 x4 x6 y1 y2 V = some z) (hz : P z) : Sem g d YX16_truth 166 [(1, 156), (0, x1), (0, x2), (0, x3), (0, x4), (9, 0), (0, x6), (9, 0), (9, 0)] [(0, y2), (0, y1), (1, 178)] (wr M V) o := by
  delta j_X16_truth_166 at h
  refine S_iadd dX16_truth_166 ?_
  refine P2_lai hM (a := 178) (n := 32768) rfl dX16_truth_167 h (fun v1 h => ?_)
  exact s_X16_truth_168 hD hM c1 c0 r0 h hz
theorem s_X16_truth_90 {g : GG} {d : Nat} (hD : 2 ≤ d) {x1 x2 x3 x4 x5 x6 : Int} {M : MM} (hM : LM M) {V : VV} {o : AV × MM} {P : ((Int × Int × VV) ⊕ ((Int × VV) ⊕ (Int × VV))) → Prop} (c1 : ∀ s : Int × Int × VV, P (.inl s) → Sem g d YX16_truth 90 [(1, 156), (0, x1), (0, x2), (0, x3), (0, x4), (0, s.1), (0, s.2.1), (9, 0), (9, 0)] [] (wr M s.2.2) o) (c0 : ∀ s : Int × VV, P (.inr (.inl s)) → Sem g d YX16_truth 37 [(1, 156), (0, x1), (0, x2), (0, s.1), (9, 0), (9, 0), (9, 0), (9, 0), (9, 0)] [] (wr M s.2) o) (r0 : ∀ r : Int × VV, P (.inr (.inr r)) → o = ((0, r.1), (wr M r.2))) {z : (Int × Int × VV) ⊕ ((Int × VV) ⊕ (Int × VV))} (h : b_X16_truth_90 x1 x2 x3 x4 x5 x6 V = some z) (hz : P z) : Sem g d YX16_truth 90 [(1, 156), (0, x1), (0, x2), (0, x3), (0, x4), (0, x5), (0, x6), (9, 0), (9, 0)] [] (wr M V) o := by
  delta b_X16_truth_90 at h
  refine S_iload dX16_truth_90 rfl ?_
  refine S_aload_n (i := 0) dX16_truth_92 rfl rfl ?_
  refine P2_gfi hM FLX16_442 rfl dX16_truth_93 ?_
  refine P_icmp_ge (tgt := 199) dX16_truth_96 rfl h (fun h => ?_) (fun h => ?_)
  · refine S_weak (ls' := [(1, 156), (0, x1), (0, x2), (0, x3), (9, 0), (0, x5), (9, 0), (9, 0), (9, 0)]) ⟨Or.inr rfl, ⟨Or.inr rfl, ⟨Or.inr rfl, ⟨Or.inr rfl, ⟨Or.inl rfl, ⟨Or.inr rfl, ⟨Or.inl rfl, ⟨Or.inl rfl, ⟨Or.inl rfl, trivial⟩⟩⟩⟩⟩⟩⟩⟩⟩ ?_
    obtain ⟨z0, h, hz⟩ := xit_some' (P := fun r => P r) h hz
    exact s_X16_truth_199 hD hM (P := fun r => P (.inr r)) c0 r0 h hz
  · refine S_iload dX16_truth_99 rfl ?_
    refine P_if_eq (tgt := 199) dX16_truth_101 rfl h (fun h => ?_) (fun h => ?_)
    · refine S_weak (ls' := [(1, 156), (0, x1), (0, x2), (0, x3), (9, 0), (0, x5), (9, 0), (9, 0), (9, 0)]) ⟨Or.inr rfl, ⟨Or.inr rfl, ⟨Or.inr rfl, ⟨Or.inr rfl, ⟨Or.inl rfl, ⟨Or.inr rfl, ⟨Or.inl rfl, ⟨Or.inl rfl, ⟨Or.inl rfl, trivial⟩⟩⟩⟩⟩⟩⟩⟩⟩ ?_
      obtain ⟨z0, h, hz⟩ := xit_some' (P := fun r => P r) h hz
      exact s_X16_truth_199 hD hM (P := fun r => P (.inr r)) c0 r0 h hz
    · refine S_aload_n (i := 0) dX16_truth_104 rfl rfl ?_
      refine S_iload dX16_truth_105 rfl ?_
      refine S_aload_n (i := 0) dX16_truth_107 rfl rfl ?_
      refine P2_gfr hM (a := 179) FLX16_79 rfl ⟨rfl, rfl⟩ dX16_truth_108 ?_
      refine S_bipush (z := 12) dX16_truth_111 rfl ?_
      refine S_iload dX16_truth_113 rfl ?_
      refine S_imul dX16_truth_115 ?_
      refine S_aload_n (i := 0) dX16_truth_116 rfl rfl ?_
      refine P2_gfr hM (a := 180) FLX16_82 rfl ⟨rfl, rfl⟩ dX16_truth_117 ?_
      refine S_iload dX16_truth_120 rfl ?_
      refine P2_lai hM (a := 180) (n := 250) rfl dX16_truth_122 h (fun v1 h => ?_)
      refine P2_invVp hM 0 [(0, x4), (1, 179), (0, 12 * x6), (0, v1)] [] CVX16_termOf MLX16_457 dX16_truth_123 rfl rfl rfl rfl rfl (by omega) h (fun r h => F_X16_termOf (by omega) hM h) (fun v2 h => ?_)
      refine S_istore dX16_truth_126 (Nat.le_of_ble_eq_true rfl) rfl rfl ?_
      change Sem g d YX16_truth 128 [(1, 156), (0, x1), (0, x2), (0, x3), (0, x4), (0, x5), (0, x6), (0, v2), (9, 0)] [] (wr M V) o
      refine S_iload dX16_truth_128 rfl ?_
      refine P_if_ge (tgt := 137) dX16_truth_130 rfl h (fun h => ?_) (fun h => ?_)
      · refine S_aload_n (i := 0) dX16_truth_137 rfl rfl ?_
        refine P2_gfr hM (a := 178) FLX16_76 rfl ⟨rfl, rfl⟩ dX16_truth_138 ?_
        refine S_sipush (z := 1024) dX16_truth_141 rfl ?_
        refine S_iload dX16_truth_144 rfl ?_
        refine S_imul dX16_truth_146 ?_
        refine S_bipush (z := 64) dX16_truth_147 rfl ?_
        refine S_iload_n (i := 3) dX16_truth_149 rfl rfl ?_
        refine S_bipush (z := 16) dX16_truth_150 rfl ?_
        refine P_rmi dX16_truth_152 h (fun v3 h => ?_)
        refine S_imul dX16_truth_153 ?_
        refine S_iadd dX16_truth_154 ?_
        refine S_iload dX16_truth_155 rfl ?_
        refine P_if_ge (tgt := 164) dX16_truth_157 rfl h (fun h => ?_) (fun h => ?_)
        · refine S_iload dX16_truth_164 rfl ?_
          refine S_weak (ls' := [(1, 156), (0, x1), (0, x2), (0, x3), (0, x4), (9, 0), (0, x6), (9, 0), (9, 0)]) ⟨Or.inr rfl, ⟨Or.inr rfl, ⟨Or.inr rfl, ⟨Or.inr rfl, ⟨Or.inr rfl, ⟨Or.inl rfl, ⟨Or.inr rfl, ⟨Or.inl rfl, ⟨Or.inl rfl, trivial⟩⟩⟩⟩⟩⟩⟩⟩⟩ ?_
          exact s_X16_truth_166 hD hM c1 c0 r0 h hz
        · refine S_iconst dX16_truth_160 rfl ?_
          refine S_goto (tgt := 166) dX16_truth_161 rfl ?_
          refine S_weak (ls' := [(1, 156), (0, x1), (0, x2), (0, x3), (0, x4), (9, 0), (0, x6), (9, 0), (9, 0)]) ⟨Or.inr rfl, ⟨Or.inr rfl, ⟨Or.inr rfl, ⟨Or.inr rfl, ⟨Or.inr rfl, ⟨Or.inl rfl, ⟨Or.inr rfl, ⟨Or.inl rfl, ⟨Or.inl rfl, trivial⟩⟩⟩⟩⟩⟩⟩⟩⟩ ?_
          exact s_X16_truth_166 hD hM c1 c0 r0 h hz
      · refine S_iconst dX16_truth_133 rfl ?_
        refine S_goto (tgt := 168) dX16_truth_134 rfl ?_
        refine S_weak (ls' := [(1, 156), (0, x1), (0, x2), (0, x3), (0, x4), (9, 0), (0, x6), (9, 0), (9, 0)]) ⟨Or.inr rfl, ⟨Or.inr rfl, ⟨Or.inr rfl, ⟨Or.inr rfl, ⟨Or.inr rfl, ⟨Or.inl rfl, ⟨Or.inr rfl, ⟨Or.inl rfl, ⟨Or.inl rfl, trivial⟩⟩⟩⟩⟩⟩⟩⟩⟩ ?_
        exact s_X16_truth_168 hD hM c1 c0 r0 h hz
theorem sl_X16_truth_90 {g : GG} {d : Nat} (hD : 2 ≤ d) {x1 x2 x3 x4 x5 x6 : Int} {M : MM} (hM : LM M) {V : VV} {o : AV × MM} {P : ((Int × VV) ⊕ (Int × VV)) → Prop} (c0 : ∀ s : Int × VV, P (.inl s) → Sem g d YX16_truth 37 [(1, 156), (0, x1), (0, x2), (0, s.1), (9, 0), (9, 0), (9, 0), (9, 0), (9, 0)] [] (wr M s.2) o) (r0 : ∀ r : Int × VV, P (.inr r) → o = ((0, r.1), (wr M r.2))) {z : (Int × VV) ⊕ (Int × VV)} (h : l_X16_truth_90 x1 x2 x3 x4 x5 x6 V = some z) (hz : P z) : Sem g d YX16_truth 90 [(1, 156), (0, x1), (0, x2), (0, x3), (0, x4), (0, x5), (0, x6), (9, 0), (9, 0)] [] (wr M V) o := by
  refine lp_sound (S := fun s : Int × Int × VV => Sem g d YX16_truth 90 [(1, 156), (0, x1), (0, x2), (0, x3), (0, x4), (0, s.1), (0, s.2.1), (9, 0), (9, 0)] [] (wr M s.2.2) o) (P := P) ?_ FU (x5, x6, V) z h hz
  intro s x hx hP
  exact s_X16_truth_90 hD hM (P := Sum.elim (fun s : Int × Int × VV => Sem g d YX16_truth 90 [(1, 156), (0, x1), (0, x2), (0, x3), (0, x4), (0, s.1), (0, s.2.1), (9, 0), (9, 0)] [] (wr M s.2.2) o) P) (fun s h => h) (fun s h => c0 s h) (fun s h => r0 s h) hx hP
theorem s_X16_truth_85 {g : GG} {d : Nat} (hD : 2 ≤ d) {x1 x2 x3 x4 y0 : Int} {M : MM} (hM : LM M) {V : VV} {o : AV × MM} {P : ((Int × VV) ⊕ (Int × VV)) → Prop} (c0 : ∀ s : Int × VV, P (.inl s) → Sem g d YX16_truth 37 [(1, 156), (0, x1), (0, x2), (0, s.1), (9, 0), (9, 0), (9, 0), (9, 0), (9, 0)] [] (wr M s.2) o) (r0 : ∀ r : Int × VV, P (.inr r) → o = ((0, r.1), (wr M r.2))) {z : (Int × VV) ⊕ (Int × VV)} (h : j_X16_truth_85 x1 x2 x3 x4 y0 V = some z) (hz : P z) : Sem g d YX16_truth 85 [(1, 156), (0, x1), (0, x2), (0, x3), (0, x4), (9, 0), (9, 0), (9, 0), (9, 0)] [(0, y0)] (wr M V) o := by
  delta j_X16_truth_85 at h
  refine S_istore dX16_truth_85 (Nat.le_of_ble_eq_true rfl) rfl rfl ?_
  change Sem g d YX16_truth 87 [(1, 156), (0, x1), (0, x2), (0, x3), (0, x4), (0, y0), (9, 0), (9, 0), (9, 0)] [] (wr M V) o
  refine S_iconst dX16_truth_87 rfl ?_
  refine S_istore dX16_truth_88 (Nat.le_of_ble_eq_true rfl) rfl rfl ?_
  change Sem g d YX16_truth 90 [(1, 156), (0, x1), (0, x2), (0, x3), (0, x4), (0, y0), (0, 0), (9, 0), (9, 0)] [] (wr M V) o
  exact sl_X16_truth_90 hD hM c0 r0 h hz
theorem s_X16_truth_84 {g : GG} {d : Nat} (hD : 2 ≤ d) {x1 x2 x3 x4 : Int} {M : MM} (hM : LM M) {V : VV} {o : AV × MM} {P : ((Int × VV) ⊕ (Int × VV)) → Prop} (c0 : ∀ s : Int × VV, P (.inl s) → Sem g d YX16_truth 37 [(1, 156), (0, x1), (0, x2), (0, s.1), (9, 0), (9, 0), (9, 0), (9, 0), (9, 0)] [] (wr M s.2) o) (r0 : ∀ r : Int × VV, P (.inr r) → o = ((0, r.1), (wr M r.2))) {z : (Int × VV) ⊕ (Int × VV)} (h : j_X16_truth_84 x1 x2 x3 x4 V = some z) (hz : P z) : Sem g d YX16_truth 84 [(1, 156), (0, x1), (0, x2), (0, x3), (0, x4), (9, 0), (9, 0), (9, 0), (9, 0)] [] (wr M V) o := by
  delta j_X16_truth_84 at h
  refine S_iconst dX16_truth_84 rfl ?_
  exact s_X16_truth_85 hD hM c0 r0 h hz
theorem s_X16_truth_37 {g : GG} {d : Nat} (hD : 2 ≤ d) {x1 x2 x3 : Int} {M : MM} (hM : LM M) {V : VV} {o : AV × MM} {P : ((Int × VV) ⊕ (Int × VV)) → Prop} (c0 : ∀ s : Int × VV, P (.inl s) → Sem g d YX16_truth 37 [(1, 156), (0, x1), (0, x2), (0, s.1), (9, 0), (9, 0), (9, 0), (9, 0), (9, 0)] [] (wr M s.2) o) (r0 : ∀ r : Int × VV, P (.inr r) → o = ((0, r.1), (wr M r.2))) {z : (Int × VV) ⊕ (Int × VV)} (h : b_X16_truth_37 x1 x2 x3 V = some z) (hz : P z) : Sem g d YX16_truth 37 [(1, 156), (0, x1), (0, x2), (0, x3), (9, 0), (9, 0), (9, 0), (9, 0), (9, 0)] [] (wr M V) o := by
  delta b_X16_truth_37 at h
  refine S_iload_n (i := 3) dX16_truth_37 rfl rfl ?_
  refine S_sipush (z := 512) dX16_truth_38 rfl ?_
  refine P_icmp_ge (tgt := 226) dX16_truth_41 rfl h (fun h => ?_) (fun h => ?_)
  · refine S_weak (ls' := [(1, 156), (0, x1), (0, x2), (9, 0), (9, 0), (9, 0), (9, 0), (9, 0), (9, 0)]) ⟨Or.inr rfl, ⟨Or.inr rfl, ⟨Or.inr rfl, ⟨Or.inl rfl, ⟨Or.inl rfl, ⟨Or.inl rfl, ⟨Or.inl rfl, ⟨Or.inl rfl, ⟨Or.inl rfl, trivial⟩⟩⟩⟩⟩⟩⟩⟩⟩ ?_
    obtain ⟨z0, h, hz⟩ := xit_some' (P := fun r => P r) h hz
    exact s_X16_truth_226 hD hM (P := fun r => P (.inr r)) r0 h hz
  · refine S_aload_n (i := 0) dX16_truth_44 rfl rfl ?_
    refine P2_gfr hM (a := 275) FLX16_373 rfl ⟨rfl, rfl⟩ dX16_truth_45 ?_
    refine S_iload_n (i := 3) dX16_truth_48 rfl rfl ?_
    refine S_iconst dX16_truth_49 rfl ?_
    refine P2_sai hM (a := 275) (n := 512) rfl dX16_truth_50 h (fun V1 h => ?_)
    refine S_iload_n (i := 3) dX16_truth_51 rfl rfl ?_
    refine S_bipush (z := 16) dX16_truth_52 rfl ?_
    refine P_dvi dX16_truth_54 h (fun v1 h => ?_)
    refine S_istore dX16_truth_55 (Nat.le_of_ble_eq_true rfl) rfl rfl ?_
    change Sem g d YX16_truth 57 [(1, 156), (0, x1), (0, x2), (0, x3), (0, v1), (9, 0), (9, 0), (9, 0), (9, 0)] [] (wr M V1) o
    refine S_iload dX16_truth_57 rfl ?_
    refine S_aload_n (i := 0) dX16_truth_59 rfl rfl ?_
    refine P2_gfi hM FLX16_424 rfl dX16_truth_60 ?_
    refine P_icmp_ge (tgt := 84) dX16_truth_63 rfl h (fun h => ?_) (fun h => ?_)
    · exact s_X16_truth_84 hD hM c0 r0 h hz
    · refine S_iload_n (i := 3) dX16_truth_66 rfl rfl ?_
      refine S_bipush (z := 16) dX16_truth_67 rfl ?_
      refine P_rmi dX16_truth_69 h (fun v2 h => ?_)
      refine S_aload_n (i := 0) dX16_truth_70 rfl rfl ?_
      refine P2_gfr hM (a := 173) FLX16_60 rfl ⟨rfl, rfl⟩ dX16_truth_71 ?_
      refine S_iload dX16_truth_74 rfl ?_
      refine P2_lai hM (a := 173) (n := 32) rfl dX16_truth_76 h (fun v3 h => ?_)
      refine P_icmp_ge (tgt := 84) dX16_truth_77 rfl h (fun h => ?_) (fun h => ?_)
      · exact s_X16_truth_84 hD hM c0 r0 h hz
      · refine S_iconst dX16_truth_80 rfl ?_
        refine S_goto (tgt := 85) dX16_truth_81 rfl ?_
        exact s_X16_truth_85 hD hM c0 r0 h hz
theorem sl_X16_truth_37 {g : GG} {d : Nat} (hD : 2 ≤ d) {x1 x2 x3 : Int} {M : MM} (hM : LM M) {V : VV} {o : AV × MM} {P : (Int × VV) → Prop} (r0 : ∀ r : Int × VV, P r → o = ((0, r.1), (wr M r.2))) {z : Int × VV} (h : l_X16_truth_37 x1 x2 x3 V = some z) (hz : P z) : Sem g d YX16_truth 37 [(1, 156), (0, x1), (0, x2), (0, x3), (9, 0), (9, 0), (9, 0), (9, 0), (9, 0)] [] (wr M V) o := by
  refine lp_sound (S := fun s : Int × VV => Sem g d YX16_truth 37 [(1, 156), (0, x1), (0, x2), (0, s.1), (9, 0), (9, 0), (9, 0), (9, 0), (9, 0)] [] (wr M s.2) o) (P := P) ?_ FU (x3, V) z h hz
  intro s x hx hP
  exact s_X16_truth_37 hD hM (P := Sum.elim (fun s : Int × VV => Sem g d YX16_truth 37 [(1, 156), (0, x1), (0, x2), (0, s.1), (9, 0), (9, 0), (9, 0), (9, 0), (9, 0)] [] (wr M s.2) o) P) (fun s h => h) (fun s h => r0 s h) hx hP
theorem s_X16_truth_33 {g : GG} {d : Nat} (hD : 2 ≤ d) {M : MM} (hM : LM M) {V : VV} {o : AV × MM} {P : (Int × VV) → Prop} (r0 : ∀ r : Int × VV, P r → o = ((0, r.1), (wr M r.2))) {z : Int × VV} (h : j_X16_truth_33 V = some z) (hz : P z) : Sem g d YX16_truth 33 [(9, 0), (9, 0), (9, 0), (9, 0), (9, 0), (9, 0), (9, 0), (9, 0), (9, 0)] [] (wr M V) o := by
  delta j_X16_truth_33 at h
  refine S_iconst dX16_truth_33 rfl ?_
  obtain rfl := r0 _ (some_P (P := fun r => P r) h hz)
  exact P_ret dX16_truth_34 rfl (Or.inl rfl)
theorem s_X16_truth_0 {g : GG} {d : Nat} (hD : 2 ≤ d) {x1 x2 : Int} {M : MM} (hM : LM M) {V : VV} {o : AV × MM} {P : (Int × VV) → Prop} (r0 : ∀ r : Int × VV, P r → o = ((0, r.1), (wr M r.2))) {z : Int × VV} (h : f_X16_truth x1 x2 V = some z) (hz : P z) : Sem g d YX16_truth 0 [(1, 156), (0, x1), (0, x2), (9, 0), (9, 0), (9, 0), (9, 0), (9, 0), (9, 0)] [] (wr M V) o := by
  delta f_X16_truth at h
  refine S_aload_n (i := 0) dX16_truth_0 rfl rfl ?_
  refine P2_invVm hM [] [] CVX16_terms MLX16_455 dX16_truth_1 rfl rfl rfl rfl (by omega) h (fun r h => F_X16_terms (by omega) hM h) (fun V1 h => ?_)
  refine S_aload_n (i := 0) dX16_truth_4 rfl rfl ?_
  refine P2_gfi hM FLX16_442 rfl dX16_truth_5 ?_
  refine S_iconst dX16_truth_8 rfl ?_
  refine P_icmp_lt (tgt := 33) dX16_truth_9 rfl h (fun h => ?_) (fun h => ?_)
  · refine S_weak (ls' := [(9, 0), (9, 0), (9, 0), (9, 0), (9, 0), (9, 0), (9, 0), (9, 0), (9, 0)]) ⟨Or.inl rfl, ⟨Or.inl rfl, ⟨Or.inl rfl, ⟨Or.inl rfl, ⟨Or.inl rfl, ⟨Or.inl rfl, ⟨Or.inl rfl, ⟨Or.inl rfl, ⟨Or.inl rfl, trivial⟩⟩⟩⟩⟩⟩⟩⟩⟩ ?_
    exact s_X16_truth_33 hD hM r0 h hz
  · refine S_aload_n (i := 0) dX16_truth_12 rfl rfl ?_
    refine P2_gfi hM FLX16_442 rfl dX16_truth_13 ?_
    refine S_iconst dX16_truth_16 rfl ?_
    refine P_icmp_gt (tgt := 33) dX16_truth_17 rfl h (fun h => ?_) (fun h => ?_)
    · refine S_weak (ls' := [(9, 0), (9, 0), (9, 0), (9, 0), (9, 0), (9, 0), (9, 0), (9, 0), (9, 0)]) ⟨Or.inl rfl, ⟨Or.inl rfl, ⟨Or.inl rfl, ⟨Or.inl rfl, ⟨Or.inl rfl, ⟨Or.inl rfl, ⟨Or.inl rfl, ⟨Or.inl rfl, ⟨Or.inl rfl, trivial⟩⟩⟩⟩⟩⟩⟩⟩⟩ ?_
      exact s_X16_truth_33 hD hM r0 h hz
    · refine S_iload_n (i := 1) dX16_truth_20 rfl rfl ?_
      refine P_if_lt (tgt := 33) dX16_truth_21 rfl h (fun h => ?_) (fun h => ?_)
      · refine S_weak (ls' := [(9, 0), (9, 0), (9, 0), (9, 0), (9, 0), (9, 0), (9, 0), (9, 0), (9, 0)]) ⟨Or.inl rfl, ⟨Or.inl rfl, ⟨Or.inl rfl, ⟨Or.inl rfl, ⟨Or.inl rfl, ⟨Or.inl rfl, ⟨Or.inl rfl, ⟨Or.inl rfl, ⟨Or.inl rfl, trivial⟩⟩⟩⟩⟩⟩⟩⟩⟩ ?_
        exact s_X16_truth_33 hD hM r0 h hz
      · refine S_iload_n (i := 2) dX16_truth_24 rfl rfl ?_
        refine P_if_lt (tgt := 33) dX16_truth_25 rfl h (fun h => ?_) (fun h => ?_)
        · refine S_weak (ls' := [(9, 0), (9, 0), (9, 0), (9, 0), (9, 0), (9, 0), (9, 0), (9, 0), (9, 0)]) ⟨Or.inl rfl, ⟨Or.inl rfl, ⟨Or.inl rfl, ⟨Or.inl rfl, ⟨Or.inl rfl, ⟨Or.inl rfl, ⟨Or.inl rfl, ⟨Or.inl rfl, ⟨Or.inl rfl, trivial⟩⟩⟩⟩⟩⟩⟩⟩⟩ ?_
          exact s_X16_truth_33 hD hM r0 h hz
        · refine S_iload_n (i := 2) dX16_truth_28 rfl rfl ?_
          refine S_iconst dX16_truth_29 rfl ?_
          refine P_icmp_le (tgt := 35) dX16_truth_30 rfl h (fun h => ?_) (fun h => ?_)
          · refine S_iconst dX16_truth_35 rfl ?_
            refine S_istore_n (i := 3) dX16_truth_36 rfl (Nat.le_of_ble_eq_true rfl) rfl rfl ?_
            change Sem g d YX16_truth 37 [(1, 156), (0, x1), (0, x2), (0, 0), (9, 0), (9, 0), (9, 0), (9, 0), (9, 0)] [] (wr M V1) o
            exact sl_X16_truth_37 hD hM r0 h hz
          · refine S_weak (ls' := [(9, 0), (9, 0), (9, 0), (9, 0), (9, 0), (9, 0), (9, 0), (9, 0), (9, 0)]) ⟨Or.inl rfl, ⟨Or.inl rfl, ⟨Or.inl rfl, ⟨Or.inl rfl, ⟨Or.inl rfl, ⟨Or.inl rfl, ⟨Or.inl rfl, ⟨Or.inl rfl, ⟨Or.inl rfl, trivial⟩⟩⟩⟩⟩⟩⟩⟩⟩ ?_
            exact s_X16_truth_33 hD hM r0 h hz
theorem F_X16_truth {g : GG} {d : Nat} (hD : 2 ≤ d) {x1 x2 : Int} {M : MM} (hM : LM M) {V : VV} {r : Int × VV} (h : f_X16_truth x1 x2 V = some r) : Sem g d YX16_truth 0 (ini YX16_truth [(1, 156), (0, x1), (0, x2)]) [] (wr M V) ((0, r.1), (wr M r.2)) := by
  change Sem g d YX16_truth 0 [(1, 156), (0, x1), (0, x2), (9, 0), (9, 0), (9, 0), (9, 0), (9, 0), (9, 0)] [] (wr M V) ((0, r.1), (wr M r.2))
  exact s_X16_truth_0 hD hM (P := fun x => x = r) (fun q e => by rw [e]) h rfl
/-! PeerSearchLaw.law([I)Z -/
theorem dL_law_0 : decode cL_law 0 = .ok (.new 7, 3) := by decide +kernel
theorem dL_law_3 : decode cL_law 3 = .ok (.dup, 1) := by decide +kernel
theorem dL_law_4 : decode cL_law 4 = .ok (.aload_n 0, 1) := by decide +kernel
theorem dL_law_5 : decode cL_law 5 = .ok (.iconst 0, 1) := by decide +kernel
theorem dL_law_6 : decode cL_law 6 = .ok (.invokestatic 9, 3) := by decide +kernel
theorem dL_law_9 : decode cL_law 9 = .ok (.aload_n 0, 1) := by decide +kernel
theorem dL_law_10 : decode cL_law 10 = .ok (.iconst 1, 1) := by decide +kernel
theorem dL_law_11 : decode cL_law 11 = .ok (.invokestatic 9, 3) := by decide +kernel
theorem dL_law_14 : decode cL_law 14 = .ok (.invokespecial 15, 3) := by decide +kernel
theorem dL_law_17 : decode cL_law 17 = .ok (.astore_n 1, 1) := by decide +kernel
theorem dL_law_18 : decode cL_law 18 = .ok (.new 18, 3) := by decide +kernel
theorem dL_law_21 : decode cL_law 21 = .ok (.dup, 1) := by decide +kernel
theorem dL_law_22 : decode cL_law 22 = .ok (.aload_n 0, 1) := by decide +kernel
theorem dL_law_23 : decode cL_law 23 = .ok (.iconst 0, 1) := by decide +kernel
theorem dL_law_24 : decode cL_law 24 = .ok (.invokestatic 9, 3) := by decide +kernel
theorem dL_law_27 : decode cL_law 27 = .ok (.aload_n 0, 1) := by decide +kernel
theorem dL_law_28 : decode cL_law 28 = .ok (.iconst 1, 1) := by decide +kernel
theorem dL_law_29 : decode cL_law 29 = .ok (.invokestatic 9, 3) := by decide +kernel
theorem dL_law_32 : decode cL_law 32 = .ok (.invokespecial 20, 3) := by decide +kernel
theorem dL_law_35 : decode cL_law 35 = .ok (.astore_n 2, 1) := by decide +kernel
theorem dL_law_36 : decode cL_law 36 = .ok (.iconst 2, 1) := by decide +kernel
theorem dL_law_37 : decode cL_law 37 = .ok (.istore_n 3, 1) := by decide +kernel
theorem dL_law_38 : decode cL_law 38 = .ok (.iload_n 3, 1) := by decide +kernel
theorem dL_law_39 : decode cL_law 39 = .ok (.aload_n 0, 1) := by decide +kernel
theorem dL_law_40 : decode cL_law 40 = .ok (.arraylength, 1) := by decide +kernel
theorem dL_law_41 : decode cL_law 41 = .ok (.bipush 6, 2) := by decide +kernel
theorem dL_law_43 : decode cL_law 43 = .ok (.isub, 1) := by decide +kernel
theorem dL_law_44 : decode cL_law 44 = .ok (.if_icmp .gt 980, 3) := by decide +kernel
theorem dL_law_47 : decode cL_law 47 = .ok (.aload_n 0, 1) := by decide +kernel
theorem dL_law_48 : decode cL_law 48 = .ok (.iload_n 3, 1) := by decide +kernel
theorem dL_law_49 : decode cL_law 49 = .ok (.iaload, 1) := by decide +kernel
theorem dL_law_50 : decode cL_law 50 = .ok (.bipush 31, 2) := by decide +kernel
theorem dL_law_52 : decode cL_law 52 = .ok (.iand, 1) := by decide +kernel
theorem dL_law_53 : decode cL_law 53 = .ok (.tableswitch 965 0 27 #[127, 188, 211, 224, 257, 280, 313, 346, 369, 402, 425, 448, 471, 494, 517, 540, 573, 596, 619, 652, 695, 728, 797, 840, 873, 896, 909, 932], 127) := by decide +kernel
theorem dL_law_180 : decode cL_law 180 = .ok (.aload_n 1, 1) := by decide +kernel
theorem dL_law_181 : decode cL_law 181 = .ok (.aload_n 0, 1) := by decide +kernel
theorem dL_law_182 : decode cL_law 182 = .ok (.iload_n 3, 1) := by decide +kernel
theorem dL_law_183 : decode cL_law 183 = .ok (.iconst 1, 1) := by decide +kernel
theorem dL_law_184 : decode cL_law 184 = .ok (.iadd, 1) := by decide +kernel
theorem dL_law_185 : decode cL_law 185 = .ok (.iaload, 1) := by decide +kernel
theorem dL_law_186 : decode cL_law 186 = .ok (.aload_n 0, 1) := by decide +kernel
theorem dL_law_187 : decode cL_law 187 = .ok (.iload_n 3, 1) := by decide +kernel
theorem dL_law_188 : decode cL_law 188 = .ok (.iconst 2, 1) := by decide +kernel
theorem dL_law_189 : decode cL_law 189 = .ok (.iadd, 1) := by decide +kernel
theorem dL_law_190 : decode cL_law 190 = .ok (.iaload, 1) := by decide +kernel
theorem dL_law_191 : decode cL_law 191 = .ok (.aload_n 0, 1) := by decide +kernel
theorem dL_law_192 : decode cL_law 192 = .ok (.iload_n 3, 1) := by decide +kernel
theorem dL_law_193 : decode cL_law 193 = .ok (.iconst 3, 1) := by decide +kernel
theorem dL_law_194 : decode cL_law 194 = .ok (.iadd, 1) := by decide +kernel
theorem dL_law_195 : decode cL_law 195 = .ok (.iaload, 1) := by decide +kernel
theorem dL_law_196 : decode cL_law 196 = .ok (.aload_n 0, 1) := by decide +kernel
theorem dL_law_197 : decode cL_law 197 = .ok (.iload_n 3, 1) := by decide +kernel
theorem dL_law_198 : decode cL_law 198 = .ok (.iconst 4, 1) := by decide +kernel
theorem dL_law_199 : decode cL_law 199 = .ok (.iadd, 1) := by decide +kernel
theorem dL_law_200 : decode cL_law 200 = .ok (.iaload, 1) := by decide +kernel
theorem dL_law_201 : decode cL_law 201 = .ok (.aload_n 0, 1) := by decide +kernel
theorem dL_law_202 : decode cL_law 202 = .ok (.iload_n 3, 1) := by decide +kernel
theorem dL_law_203 : decode cL_law 203 = .ok (.iconst 5, 1) := by decide +kernel
theorem dL_law_204 : decode cL_law 204 = .ok (.iadd, 1) := by decide +kernel
theorem dL_law_205 : decode cL_law 205 = .ok (.iaload, 1) := by decide +kernel
theorem dL_law_206 : decode cL_law 206 = .ok (.invokevirtual 21, 3) := by decide +kernel
theorem dL_law_209 : decode cL_law 209 = .ok (.aload_n 2, 1) := by decide +kernel
theorem dL_law_210 : decode cL_law 210 = .ok (.aload_n 0, 1) := by decide +kernel
theorem dL_law_211 : decode cL_law 211 = .ok (.iload_n 3, 1) := by decide +kernel
theorem dL_law_212 : decode cL_law 212 = .ok (.iconst 1, 1) := by decide +kernel
theorem dL_law_213 : decode cL_law 213 = .ok (.iadd, 1) := by decide +kernel
theorem dL_law_214 : decode cL_law 214 = .ok (.iaload, 1) := by decide +kernel
theorem dL_law_215 : decode cL_law 215 = .ok (.aload_n 0, 1) := by decide +kernel
theorem dL_law_216 : decode cL_law 216 = .ok (.iload_n 3, 1) := by decide +kernel
theorem dL_law_217 : decode cL_law 217 = .ok (.iconst 2, 1) := by decide +kernel
theorem dL_law_218 : decode cL_law 218 = .ok (.iadd, 1) := by decide +kernel
theorem dL_law_219 : decode cL_law 219 = .ok (.iaload, 1) := by decide +kernel
theorem dL_law_220 : decode cL_law 220 = .ok (.aload_n 0, 1) := by decide +kernel
theorem dL_law_221 : decode cL_law 221 = .ok (.iload_n 3, 1) := by decide +kernel
theorem dL_law_222 : decode cL_law 222 = .ok (.iconst 3, 1) := by decide +kernel
theorem dL_law_223 : decode cL_law 223 = .ok (.iadd, 1) := by decide +kernel
theorem dL_law_224 : decode cL_law 224 = .ok (.iaload, 1) := by decide +kernel
theorem dL_law_225 : decode cL_law 225 = .ok (.aload_n 0, 1) := by decide +kernel
theorem dL_law_226 : decode cL_law 226 = .ok (.iload_n 3, 1) := by decide +kernel
theorem dL_law_227 : decode cL_law 227 = .ok (.iconst 4, 1) := by decide +kernel
theorem dL_law_228 : decode cL_law 228 = .ok (.iadd, 1) := by decide +kernel
theorem dL_law_229 : decode cL_law 229 = .ok (.iaload, 1) := by decide +kernel
theorem dL_law_230 : decode cL_law 230 = .ok (.aload_n 0, 1) := by decide +kernel
theorem dL_law_231 : decode cL_law 231 = .ok (.iload_n 3, 1) := by decide +kernel
theorem dL_law_232 : decode cL_law 232 = .ok (.iconst 5, 1) := by decide +kernel
theorem dL_law_233 : decode cL_law 233 = .ok (.iadd, 1) := by decide +kernel
theorem dL_law_234 : decode cL_law 234 = .ok (.iaload, 1) := by decide +kernel
theorem dL_law_235 : decode cL_law 235 = .ok (.invokevirtual 25, 3) := by decide +kernel
theorem dL_law_238 : decode cL_law 238 = .ok (.goto 780, 3) := by decide +kernel
theorem dL_law_241 : decode cL_law 241 = .ok (.aload_n 1, 1) := by decide +kernel
theorem dL_law_242 : decode cL_law 242 = .ok (.aload_n 0, 1) := by decide +kernel
theorem dL_law_243 : decode cL_law 243 = .ok (.iload_n 3, 1) := by decide +kernel
theorem dL_law_244 : decode cL_law 244 = .ok (.iconst 1, 1) := by decide +kernel
theorem dL_law_245 : decode cL_law 245 = .ok (.iadd, 1) := by decide +kernel
theorem dL_law_246 : decode cL_law 246 = .ok (.iaload, 1) := by decide +kernel
theorem dL_law_247 : decode cL_law 247 = .ok (.invokevirtual 26, 3) := by decide +kernel
theorem dL_law_250 : decode cL_law 250 = .ok (.aload_n 2, 1) := by decide +kernel
theorem dL_law_251 : decode cL_law 251 = .ok (.aload_n 0, 1) := by decide +kernel
theorem dL_law_252 : decode cL_law 252 = .ok (.iload_n 3, 1) := by decide +kernel
theorem dL_law_253 : decode cL_law 253 = .ok (.iconst 1, 1) := by decide +kernel
theorem dL_law_254 : decode cL_law 254 = .ok (.iadd, 1) := by decide +kernel
theorem dL_law_255 : decode cL_law 255 = .ok (.iaload, 1) := by decide +kernel
theorem dL_law_256 : decode cL_law 256 = .ok (.invokevirtual 30, 3) := by decide +kernel
theorem dL_law_259 : decode cL_law 259 = .ok (.if_icmp .eq 759, 3) := by decide +kernel
theorem dL_law_262 : decode cL_law 262 = .ok (.iconst 0, 1) := by decide +kernel
theorem dL_law_263 : decode cL_law 263 = .ok (.ireturn, 1) := by decide +kernel
theorem dL_law_264 : decode cL_law 264 = .ok (.aload_n 1, 1) := by decide +kernel
theorem dL_law_265 : decode cL_law 265 = .ok (.invokevirtual 31, 3) := by decide +kernel
theorem dL_law_268 : decode cL_law 268 = .ok (.aload_n 2, 1) := by decide +kernel
theorem dL_law_269 : decode cL_law 269 = .ok (.invokevirtual 35, 3) := by decide +kernel
theorem dL_law_272 : decode cL_law 272 = .ok (.if_icmp .eq 746, 3) := by decide +kernel
theorem dL_law_275 : decode cL_law 275 = .ok (.iconst 0, 1) := by decide +kernel
theorem dL_law_276 : decode cL_law 276 = .ok (.ireturn, 1) := by decide +kernel
theorem dL_law_277 : decode cL_law 277 = .ok (.aload_n 1, 1) := by decide +kernel
theorem dL_law_278 : decode cL_law 278 = .ok (.aload_n 0, 1) := by decide +kernel
theorem dL_law_279 : decode cL_law 279 = .ok (.iload_n 3, 1) := by decide +kernel
theorem dL_law_280 : decode cL_law 280 = .ok (.iconst 1, 1) := by decide +kernel
theorem dL_law_281 : decode cL_law 281 = .ok (.iadd, 1) := by decide +kernel
theorem dL_law_282 : decode cL_law 282 = .ok (.iaload, 1) := by decide +kernel
theorem dL_law_283 : decode cL_law 283 = .ok (.aload_n 0, 1) := by decide +kernel
theorem dL_law_284 : decode cL_law 284 = .ok (.iload_n 3, 1) := by decide +kernel
theorem dL_law_285 : decode cL_law 285 = .ok (.iconst 2, 1) := by decide +kernel
theorem dL_law_286 : decode cL_law 286 = .ok (.iadd, 1) := by decide +kernel
theorem dL_law_287 : decode cL_law 287 = .ok (.iaload, 1) := by decide +kernel
theorem dL_law_288 : decode cL_law 288 = .ok (.invokevirtual 36, 3) := by decide +kernel
theorem dL_law_291 : decode cL_law 291 = .ok (.aload_n 2, 1) := by decide +kernel
theorem dL_law_292 : decode cL_law 292 = .ok (.aload_n 0, 1) := by decide +kernel
theorem dL_law_293 : decode cL_law 293 = .ok (.iload_n 3, 1) := by decide +kernel
theorem dL_law_294 : decode cL_law 294 = .ok (.iconst 1, 1) := by decide +kernel
theorem dL_law_295 : decode cL_law 295 = .ok (.iadd, 1) := by decide +kernel
theorem dL_law_296 : decode cL_law 296 = .ok (.iaload, 1) := by decide +kernel
theorem dL_law_297 : decode cL_law 297 = .ok (.aload_n 0, 1) := by decide +kernel
theorem dL_law_298 : decode cL_law 298 = .ok (.iload_n 3, 1) := by decide +kernel
theorem dL_law_299 : decode cL_law 299 = .ok (.iconst 2, 1) := by decide +kernel
theorem dL_law_300 : decode cL_law 300 = .ok (.iadd, 1) := by decide +kernel
theorem dL_law_301 : decode cL_law 301 = .ok (.iaload, 1) := by decide +kernel
theorem dL_law_302 : decode cL_law 302 = .ok (.invokevirtual 40, 3) := by decide +kernel
theorem dL_law_305 : decode cL_law 305 = .ok (.if_icmp .eq 713, 3) := by decide +kernel
theorem dL_law_308 : decode cL_law 308 = .ok (.iconst 0, 1) := by decide +kernel
theorem dL_law_309 : decode cL_law 309 = .ok (.ireturn, 1) := by decide +kernel
theorem dL_law_310 : decode cL_law 310 = .ok (.aload_n 1, 1) := by decide +kernel
theorem dL_law_311 : decode cL_law 311 = .ok (.aload_n 0, 1) := by decide +kernel
theorem dL_law_312 : decode cL_law 312 = .ok (.iload_n 3, 1) := by decide +kernel
theorem dL_law_313 : decode cL_law 313 = .ok (.iconst 1, 1) := by decide +kernel
theorem dL_law_314 : decode cL_law 314 = .ok (.iadd, 1) := by decide +kernel
theorem dL_law_315 : decode cL_law 315 = .ok (.iaload, 1) := by decide +kernel
theorem dL_law_316 : decode cL_law 316 = .ok (.invokevirtual 41, 3) := by decide +kernel
theorem dL_law_319 : decode cL_law 319 = .ok (.aload_n 2, 1) := by decide +kernel
theorem dL_law_320 : decode cL_law 320 = .ok (.aload_n 0, 1) := by decide +kernel
theorem dL_law_321 : decode cL_law 321 = .ok (.iload_n 3, 1) := by decide +kernel
theorem dL_law_322 : decode cL_law 322 = .ok (.iconst 1, 1) := by decide +kernel
theorem dL_law_323 : decode cL_law 323 = .ok (.iadd, 1) := by decide +kernel
theorem dL_law_324 : decode cL_law 324 = .ok (.iaload, 1) := by decide +kernel
theorem dL_law_325 : decode cL_law 325 = .ok (.invokevirtual 44, 3) := by decide +kernel
theorem dL_law_328 : decode cL_law 328 = .ok (.if_icmp .eq 690, 3) := by decide +kernel
theorem dL_law_331 : decode cL_law 331 = .ok (.iconst 0, 1) := by decide +kernel
theorem dL_law_332 : decode cL_law 332 = .ok (.ireturn, 1) := by decide +kernel
theorem dL_law_333 : decode cL_law 333 = .ok (.aload_n 1, 1) := by decide +kernel
theorem dL_law_334 : decode cL_law 334 = .ok (.aload_n 0, 1) := by decide +kernel
theorem dL_law_335 : decode cL_law 335 = .ok (.iload_n 3, 1) := by decide +kernel
theorem dL_law_336 : decode cL_law 336 = .ok (.iconst 1, 1) := by decide +kernel
theorem dL_law_337 : decode cL_law 337 = .ok (.iadd, 1) := by decide +kernel
theorem dL_law_338 : decode cL_law 338 = .ok (.iaload, 1) := by decide +kernel
theorem dL_law_339 : decode cL_law 339 = .ok (.aload_n 0, 1) := by decide +kernel
theorem dL_law_340 : decode cL_law 340 = .ok (.iload_n 3, 1) := by decide +kernel
theorem dL_law_341 : decode cL_law 341 = .ok (.iconst 2, 1) := by decide +kernel
theorem dL_law_342 : decode cL_law 342 = .ok (.iadd, 1) := by decide +kernel
theorem dL_law_343 : decode cL_law 343 = .ok (.iaload, 1) := by decide +kernel
theorem dL_law_344 : decode cL_law 344 = .ok (.invokevirtual 45, 3) := by decide +kernel
theorem dL_law_347 : decode cL_law 347 = .ok (.aload_n 2, 1) := by decide +kernel
theorem dL_law_348 : decode cL_law 348 = .ok (.aload_n 0, 1) := by decide +kernel
theorem dL_law_349 : decode cL_law 349 = .ok (.iload_n 3, 1) := by decide +kernel
theorem dL_law_350 : decode cL_law 350 = .ok (.iconst 1, 1) := by decide +kernel
theorem dL_law_351 : decode cL_law 351 = .ok (.iadd, 1) := by decide +kernel
theorem dL_law_352 : decode cL_law 352 = .ok (.iaload, 1) := by decide +kernel
theorem dL_law_353 : decode cL_law 353 = .ok (.aload_n 0, 1) := by decide +kernel
theorem dL_law_354 : decode cL_law 354 = .ok (.iload_n 3, 1) := by decide +kernel
theorem dL_law_355 : decode cL_law 355 = .ok (.iconst 2, 1) := by decide +kernel
theorem dL_law_356 : decode cL_law 356 = .ok (.iadd, 1) := by decide +kernel
theorem dL_law_357 : decode cL_law 357 = .ok (.iaload, 1) := by decide +kernel
theorem dL_law_358 : decode cL_law 358 = .ok (.invokevirtual 49, 3) := by decide +kernel
theorem dL_law_361 : decode cL_law 361 = .ok (.if_icmp .eq 657, 3) := by decide +kernel
theorem dL_law_364 : decode cL_law 364 = .ok (.iconst 0, 1) := by decide +kernel
theorem dL_law_365 : decode cL_law 365 = .ok (.ireturn, 1) := by decide +kernel
theorem dL_law_366 : decode cL_law 366 = .ok (.aload_n 1, 1) := by decide +kernel
theorem dL_law_367 : decode cL_law 367 = .ok (.aload_n 0, 1) := by decide +kernel
theorem dL_law_368 : decode cL_law 368 = .ok (.iload_n 3, 1) := by decide +kernel
theorem dL_law_369 : decode cL_law 369 = .ok (.iconst 1, 1) := by decide +kernel
theorem dL_law_370 : decode cL_law 370 = .ok (.iadd, 1) := by decide +kernel
theorem dL_law_371 : decode cL_law 371 = .ok (.iaload, 1) := by decide +kernel
theorem dL_law_372 : decode cL_law 372 = .ok (.aload_n 0, 1) := by decide +kernel
theorem dL_law_373 : decode cL_law 373 = .ok (.iload_n 3, 1) := by decide +kernel
theorem dL_law_374 : decode cL_law 374 = .ok (.iconst 2, 1) := by decide +kernel
theorem dL_law_375 : decode cL_law 375 = .ok (.iadd, 1) := by decide +kernel
theorem dL_law_376 : decode cL_law 376 = .ok (.iaload, 1) := by decide +kernel
theorem dL_law_377 : decode cL_law 377 = .ok (.invokevirtual 50, 3) := by decide +kernel
theorem dL_law_380 : decode cL_law 380 = .ok (.aload_n 2, 1) := by decide +kernel
theorem dL_law_381 : decode cL_law 381 = .ok (.aload_n 0, 1) := by decide +kernel
theorem dL_law_382 : decode cL_law 382 = .ok (.iload_n 3, 1) := by decide +kernel
theorem dL_law_383 : decode cL_law 383 = .ok (.iconst 1, 1) := by decide +kernel
theorem dL_law_384 : decode cL_law 384 = .ok (.iadd, 1) := by decide +kernel
theorem dL_law_385 : decode cL_law 385 = .ok (.iaload, 1) := by decide +kernel
theorem dL_law_386 : decode cL_law 386 = .ok (.aload_n 0, 1) := by decide +kernel
theorem dL_law_387 : decode cL_law 387 = .ok (.iload_n 3, 1) := by decide +kernel
theorem dL_law_388 : decode cL_law 388 = .ok (.iconst 2, 1) := by decide +kernel
theorem dL_law_389 : decode cL_law 389 = .ok (.iadd, 1) := by decide +kernel
theorem dL_law_390 : decode cL_law 390 = .ok (.iaload, 1) := by decide +kernel
theorem dL_law_391 : decode cL_law 391 = .ok (.invokevirtual 53, 3) := by decide +kernel
theorem dL_law_394 : decode cL_law 394 = .ok (.if_icmp .eq 624, 3) := by decide +kernel
theorem dL_law_397 : decode cL_law 397 = .ok (.iconst 0, 1) := by decide +kernel
theorem dL_law_398 : decode cL_law 398 = .ok (.ireturn, 1) := by decide +kernel
theorem dL_law_399 : decode cL_law 399 = .ok (.aload_n 1, 1) := by decide +kernel
theorem dL_law_400 : decode cL_law 400 = .ok (.aload_n 0, 1) := by decide +kernel
theorem dL_law_401 : decode cL_law 401 = .ok (.iload_n 3, 1) := by decide +kernel
theorem dL_law_402 : decode cL_law 402 = .ok (.iconst 1, 1) := by decide +kernel
theorem dL_law_403 : decode cL_law 403 = .ok (.iadd, 1) := by decide +kernel
theorem dL_law_404 : decode cL_law 404 = .ok (.iaload, 1) := by decide +kernel
theorem dL_law_405 : decode cL_law 405 = .ok (.invokevirtual 54, 3) := by decide +kernel
theorem dL_law_408 : decode cL_law 408 = .ok (.aload_n 2, 1) := by decide +kernel
theorem dL_law_409 : decode cL_law 409 = .ok (.aload_n 0, 1) := by decide +kernel
theorem dL_law_410 : decode cL_law 410 = .ok (.iload_n 3, 1) := by decide +kernel
theorem dL_law_411 : decode cL_law 411 = .ok (.iconst 1, 1) := by decide +kernel
theorem dL_law_412 : decode cL_law 412 = .ok (.iadd, 1) := by decide +kernel
theorem dL_law_413 : decode cL_law 413 = .ok (.iaload, 1) := by decide +kernel
theorem dL_law_414 : decode cL_law 414 = .ok (.invokevirtual 58, 3) := by decide +kernel
theorem dL_law_417 : decode cL_law 417 = .ok (.if_icmp .eq 601, 3) := by decide +kernel
theorem dL_law_420 : decode cL_law 420 = .ok (.iconst 0, 1) := by decide +kernel
theorem dL_law_421 : decode cL_law 421 = .ok (.ireturn, 1) := by decide +kernel
theorem dL_law_422 : decode cL_law 422 = .ok (.aload_n 1, 1) := by decide +kernel
theorem dL_law_423 : decode cL_law 423 = .ok (.aload_n 0, 1) := by decide +kernel
theorem dL_law_424 : decode cL_law 424 = .ok (.iload_n 3, 1) := by decide +kernel
theorem dL_law_425 : decode cL_law 425 = .ok (.iconst 1, 1) := by decide +kernel
theorem dL_law_426 : decode cL_law 426 = .ok (.iadd, 1) := by decide +kernel
theorem dL_law_427 : decode cL_law 427 = .ok (.iaload, 1) := by decide +kernel
theorem dL_law_428 : decode cL_law 428 = .ok (.aload_n 0, 1) := by decide +kernel
theorem dL_law_429 : decode cL_law 429 = .ok (.iload_n 3, 1) := by decide +kernel
theorem dL_law_430 : decode cL_law 430 = .ok (.iconst 2, 1) := by decide +kernel
theorem dL_law_431 : decode cL_law 431 = .ok (.iadd, 1) := by decide +kernel
theorem dL_law_432 : decode cL_law 432 = .ok (.iaload, 1) := by decide +kernel
theorem dL_law_433 : decode cL_law 433 = .ok (.invokevirtual 59, 3) := by decide +kernel
theorem dL_law_436 : decode cL_law 436 = .ok (.aload_n 2, 1) := by decide +kernel
theorem dL_law_437 : decode cL_law 437 = .ok (.aload_n 0, 1) := by decide +kernel
theorem dL_law_438 : decode cL_law 438 = .ok (.iload_n 3, 1) := by decide +kernel
theorem dL_law_439 : decode cL_law 439 = .ok (.iconst 1, 1) := by decide +kernel
theorem dL_law_440 : decode cL_law 440 = .ok (.iadd, 1) := by decide +kernel
theorem dL_law_441 : decode cL_law 441 = .ok (.iaload, 1) := by decide +kernel
theorem dL_law_442 : decode cL_law 442 = .ok (.aload_n 0, 1) := by decide +kernel
theorem dL_law_443 : decode cL_law 443 = .ok (.iload_n 3, 1) := by decide +kernel
theorem dL_law_444 : decode cL_law 444 = .ok (.iconst 2, 1) := by decide +kernel
theorem dL_law_445 : decode cL_law 445 = .ok (.iadd, 1) := by decide +kernel
theorem dL_law_446 : decode cL_law 446 = .ok (.iaload, 1) := by decide +kernel
theorem dL_law_447 : decode cL_law 447 = .ok (.invokevirtual 62, 3) := by decide +kernel
theorem dL_law_450 : decode cL_law 450 = .ok (.if_icmp .eq 568, 3) := by decide +kernel
theorem dL_law_453 : decode cL_law 453 = .ok (.iconst 0, 1) := by decide +kernel
theorem dL_law_454 : decode cL_law 454 = .ok (.ireturn, 1) := by decide +kernel
theorem dL_law_455 : decode cL_law 455 = .ok (.aload_n 1, 1) := by decide +kernel
theorem dL_law_456 : decode cL_law 456 = .ok (.aload_n 0, 1) := by decide +kernel
theorem dL_law_457 : decode cL_law 457 = .ok (.iload_n 3, 1) := by decide +kernel
theorem dL_law_458 : decode cL_law 458 = .ok (.iconst 1, 1) := by decide +kernel
theorem dL_law_459 : decode cL_law 459 = .ok (.iadd, 1) := by decide +kernel
theorem dL_law_460 : decode cL_law 460 = .ok (.iaload, 1) := by decide +kernel
theorem dL_law_461 : decode cL_law 461 = .ok (.invokevirtual 63, 3) := by decide +kernel
theorem dL_law_464 : decode cL_law 464 = .ok (.aload_n 2, 1) := by decide +kernel
theorem dL_law_465 : decode cL_law 465 = .ok (.aload_n 0, 1) := by decide +kernel
theorem dL_law_466 : decode cL_law 466 = .ok (.iload_n 3, 1) := by decide +kernel
theorem dL_law_467 : decode cL_law 467 = .ok (.iconst 1, 1) := by decide +kernel
theorem dL_law_468 : decode cL_law 468 = .ok (.iadd, 1) := by decide +kernel
theorem dL_law_469 : decode cL_law 469 = .ok (.iaload, 1) := by decide +kernel
theorem dL_law_470 : decode cL_law 470 = .ok (.invokevirtual 66, 3) := by decide +kernel
theorem dL_law_473 : decode cL_law 473 = .ok (.if_icmp .eq 545, 3) := by decide +kernel
theorem dL_law_476 : decode cL_law 476 = .ok (.iconst 0, 1) := by decide +kernel
theorem dL_law_477 : decode cL_law 477 = .ok (.ireturn, 1) := by decide +kernel
theorem dL_law_478 : decode cL_law 478 = .ok (.aload_n 1, 1) := by decide +kernel
theorem dL_law_479 : decode cL_law 479 = .ok (.aload_n 0, 1) := by decide +kernel
theorem dL_law_480 : decode cL_law 480 = .ok (.iload_n 3, 1) := by decide +kernel
theorem dL_law_481 : decode cL_law 481 = .ok (.iconst 1, 1) := by decide +kernel
theorem dL_law_482 : decode cL_law 482 = .ok (.iadd, 1) := by decide +kernel
theorem dL_law_483 : decode cL_law 483 = .ok (.iaload, 1) := by decide +kernel
theorem dL_law_484 : decode cL_law 484 = .ok (.invokevirtual 67, 3) := by decide +kernel
theorem dL_law_487 : decode cL_law 487 = .ok (.aload_n 2, 1) := by decide +kernel
theorem dL_law_488 : decode cL_law 488 = .ok (.aload_n 0, 1) := by decide +kernel
theorem dL_law_489 : decode cL_law 489 = .ok (.iload_n 3, 1) := by decide +kernel
theorem dL_law_490 : decode cL_law 490 = .ok (.iconst 1, 1) := by decide +kernel
theorem dL_law_491 : decode cL_law 491 = .ok (.iadd, 1) := by decide +kernel
theorem dL_law_492 : decode cL_law 492 = .ok (.iaload, 1) := by decide +kernel
theorem dL_law_493 : decode cL_law 493 = .ok (.invokevirtual 70, 3) := by decide +kernel
theorem dL_law_496 : decode cL_law 496 = .ok (.if_icmp .eq 522, 3) := by decide +kernel
theorem dL_law_499 : decode cL_law 499 = .ok (.iconst 0, 1) := by decide +kernel
theorem dL_law_500 : decode cL_law 500 = .ok (.ireturn, 1) := by decide +kernel
theorem dL_law_501 : decode cL_law 501 = .ok (.aload_n 1, 1) := by decide +kernel
theorem dL_law_502 : decode cL_law 502 = .ok (.aload_n 0, 1) := by decide +kernel
theorem dL_law_503 : decode cL_law 503 = .ok (.iload_n 3, 1) := by decide +kernel
theorem dL_law_504 : decode cL_law 504 = .ok (.iconst 1, 1) := by decide +kernel
theorem dL_law_505 : decode cL_law 505 = .ok (.iadd, 1) := by decide +kernel
theorem dL_law_506 : decode cL_law 506 = .ok (.iaload, 1) := by decide +kernel
theorem dL_law_507 : decode cL_law 507 = .ok (.invokevirtual 71, 3) := by decide +kernel
theorem dL_law_510 : decode cL_law 510 = .ok (.aload_n 2, 1) := by decide +kernel
theorem dL_law_511 : decode cL_law 511 = .ok (.aload_n 0, 1) := by decide +kernel
theorem dL_law_512 : decode cL_law 512 = .ok (.iload_n 3, 1) := by decide +kernel
theorem dL_law_513 : decode cL_law 513 = .ok (.iconst 1, 1) := by decide +kernel
theorem dL_law_514 : decode cL_law 514 = .ok (.iadd, 1) := by decide +kernel
theorem dL_law_515 : decode cL_law 515 = .ok (.iaload, 1) := by decide +kernel
theorem dL_law_516 : decode cL_law 516 = .ok (.invokevirtual 74, 3) := by decide +kernel
theorem dL_law_519 : decode cL_law 519 = .ok (.if_icmp .eq 499, 3) := by decide +kernel
theorem dL_law_522 : decode cL_law 522 = .ok (.iconst 0, 1) := by decide +kernel
theorem dL_law_523 : decode cL_law 523 = .ok (.ireturn, 1) := by decide +kernel
theorem dL_law_524 : decode cL_law 524 = .ok (.aload_n 1, 1) := by decide +kernel
theorem dL_law_525 : decode cL_law 525 = .ok (.aload_n 0, 1) := by decide +kernel
theorem dL_law_526 : decode cL_law 526 = .ok (.iload_n 3, 1) := by decide +kernel
theorem dL_law_527 : decode cL_law 527 = .ok (.iconst 1, 1) := by decide +kernel
theorem dL_law_528 : decode cL_law 528 = .ok (.iadd, 1) := by decide +kernel
theorem dL_law_529 : decode cL_law 529 = .ok (.iaload, 1) := by decide +kernel
theorem dL_law_530 : decode cL_law 530 = .ok (.invokevirtual 75, 3) := by decide +kernel
theorem dL_law_533 : decode cL_law 533 = .ok (.aload_n 2, 1) := by decide +kernel
theorem dL_law_534 : decode cL_law 534 = .ok (.aload_n 0, 1) := by decide +kernel
theorem dL_law_535 : decode cL_law 535 = .ok (.iload_n 3, 1) := by decide +kernel
theorem dL_law_536 : decode cL_law 536 = .ok (.iconst 1, 1) := by decide +kernel
theorem dL_law_537 : decode cL_law 537 = .ok (.iadd, 1) := by decide +kernel
theorem dL_law_538 : decode cL_law 538 = .ok (.iaload, 1) := by decide +kernel
theorem dL_law_539 : decode cL_law 539 = .ok (.invokevirtual 78, 3) := by decide +kernel
theorem dL_law_542 : decode cL_law 542 = .ok (.if_icmp .eq 476, 3) := by decide +kernel
theorem dL_law_545 : decode cL_law 545 = .ok (.iconst 0, 1) := by decide +kernel
theorem dL_law_546 : decode cL_law 546 = .ok (.ireturn, 1) := by decide +kernel
theorem dL_law_547 : decode cL_law 547 = .ok (.aload_n 1, 1) := by decide +kernel
theorem dL_law_548 : decode cL_law 548 = .ok (.aload_n 0, 1) := by decide +kernel
theorem dL_law_549 : decode cL_law 549 = .ok (.iload_n 3, 1) := by decide +kernel
theorem dL_law_550 : decode cL_law 550 = .ok (.iconst 1, 1) := by decide +kernel
theorem dL_law_551 : decode cL_law 551 = .ok (.iadd, 1) := by decide +kernel
theorem dL_law_552 : decode cL_law 552 = .ok (.iaload, 1) := by decide +kernel
theorem dL_law_553 : decode cL_law 553 = .ok (.invokevirtual 79, 3) := by decide +kernel
theorem dL_law_556 : decode cL_law 556 = .ok (.aload_n 2, 1) := by decide +kernel
theorem dL_law_557 : decode cL_law 557 = .ok (.aload_n 0, 1) := by decide +kernel
theorem dL_law_558 : decode cL_law 558 = .ok (.iload_n 3, 1) := by decide +kernel
theorem dL_law_559 : decode cL_law 559 = .ok (.iconst 1, 1) := by decide +kernel
theorem dL_law_560 : decode cL_law 560 = .ok (.iadd, 1) := by decide +kernel
theorem dL_law_561 : decode cL_law 561 = .ok (.iaload, 1) := by decide +kernel
theorem dL_law_562 : decode cL_law 562 = .ok (.invokevirtual 82, 3) := by decide +kernel
theorem dL_law_565 : decode cL_law 565 = .ok (.if_icmp .eq 453, 3) := by decide +kernel
theorem dL_law_568 : decode cL_law 568 = .ok (.iconst 0, 1) := by decide +kernel
theorem dL_law_569 : decode cL_law 569 = .ok (.ireturn, 1) := by decide +kernel
theorem dL_law_570 : decode cL_law 570 = .ok (.aload_n 1, 1) := by decide +kernel
theorem dL_law_571 : decode cL_law 571 = .ok (.aload_n 0, 1) := by decide +kernel
theorem dL_law_572 : decode cL_law 572 = .ok (.iload_n 3, 1) := by decide +kernel
theorem dL_law_573 : decode cL_law 573 = .ok (.iconst 1, 1) := by decide +kernel
theorem dL_law_574 : decode cL_law 574 = .ok (.iadd, 1) := by decide +kernel
theorem dL_law_575 : decode cL_law 575 = .ok (.iaload, 1) := by decide +kernel
theorem dL_law_576 : decode cL_law 576 = .ok (.invokevirtual 83, 3) := by decide +kernel
theorem dL_law_579 : decode cL_law 579 = .ok (.aload_n 2, 1) := by decide +kernel
theorem dL_law_580 : decode cL_law 580 = .ok (.aload_n 0, 1) := by decide +kernel
theorem dL_law_581 : decode cL_law 581 = .ok (.iload_n 3, 1) := by decide +kernel
theorem dL_law_582 : decode cL_law 582 = .ok (.iconst 1, 1) := by decide +kernel
theorem dL_law_583 : decode cL_law 583 = .ok (.iadd, 1) := by decide +kernel
theorem dL_law_584 : decode cL_law 584 = .ok (.iaload, 1) := by decide +kernel
theorem dL_law_585 : decode cL_law 585 = .ok (.invokevirtual 86, 3) := by decide +kernel
theorem dL_law_588 : decode cL_law 588 = .ok (.if_icmp .eq 430, 3) := by decide +kernel
theorem dL_law_591 : decode cL_law 591 = .ok (.iconst 0, 1) := by decide +kernel
theorem dL_law_592 : decode cL_law 592 = .ok (.ireturn, 1) := by decide +kernel
theorem dL_law_593 : decode cL_law 593 = .ok (.aload_n 1, 1) := by decide +kernel
theorem dL_law_594 : decode cL_law 594 = .ok (.aload_n 0, 1) := by decide +kernel
theorem dL_law_595 : decode cL_law 595 = .ok (.iload_n 3, 1) := by decide +kernel
theorem dL_law_596 : decode cL_law 596 = .ok (.iconst 1, 1) := by decide +kernel
theorem dL_law_597 : decode cL_law 597 = .ok (.iadd, 1) := by decide +kernel
theorem dL_law_598 : decode cL_law 598 = .ok (.iaload, 1) := by decide +kernel
theorem dL_law_599 : decode cL_law 599 = .ok (.aload_n 0, 1) := by decide +kernel
theorem dL_law_600 : decode cL_law 600 = .ok (.iload_n 3, 1) := by decide +kernel
theorem dL_law_601 : decode cL_law 601 = .ok (.iconst 2, 1) := by decide +kernel
theorem dL_law_602 : decode cL_law 602 = .ok (.iadd, 1) := by decide +kernel
theorem dL_law_603 : decode cL_law 603 = .ok (.iaload, 1) := by decide +kernel
theorem dL_law_604 : decode cL_law 604 = .ok (.invokevirtual 87, 3) := by decide +kernel
theorem dL_law_607 : decode cL_law 607 = .ok (.aload_n 2, 1) := by decide +kernel
theorem dL_law_608 : decode cL_law 608 = .ok (.aload_n 0, 1) := by decide +kernel
theorem dL_law_609 : decode cL_law 609 = .ok (.iload_n 3, 1) := by decide +kernel
theorem dL_law_610 : decode cL_law 610 = .ok (.iconst 1, 1) := by decide +kernel
theorem dL_law_611 : decode cL_law 611 = .ok (.iadd, 1) := by decide +kernel
theorem dL_law_612 : decode cL_law 612 = .ok (.iaload, 1) := by decide +kernel
theorem dL_law_613 : decode cL_law 613 = .ok (.aload_n 0, 1) := by decide +kernel
theorem dL_law_614 : decode cL_law 614 = .ok (.iload_n 3, 1) := by decide +kernel
theorem dL_law_615 : decode cL_law 615 = .ok (.iconst 2, 1) := by decide +kernel
theorem dL_law_616 : decode cL_law 616 = .ok (.iadd, 1) := by decide +kernel
theorem dL_law_617 : decode cL_law 617 = .ok (.iaload, 1) := by decide +kernel
theorem dL_law_618 : decode cL_law 618 = .ok (.invokevirtual 90, 3) := by decide +kernel
theorem dL_law_621 : decode cL_law 621 = .ok (.if_icmp .eq 397, 3) := by decide +kernel
theorem dL_law_624 : decode cL_law 624 = .ok (.iconst 0, 1) := by decide +kernel
theorem dL_law_625 : decode cL_law 625 = .ok (.ireturn, 1) := by decide +kernel
theorem dL_law_626 : decode cL_law 626 = .ok (.aload_n 1, 1) := by decide +kernel
theorem dL_law_627 : decode cL_law 627 = .ok (.aload_n 0, 1) := by decide +kernel
theorem dL_law_628 : decode cL_law 628 = .ok (.iload_n 3, 1) := by decide +kernel
theorem dL_law_629 : decode cL_law 629 = .ok (.iconst 1, 1) := by decide +kernel
theorem dL_law_630 : decode cL_law 630 = .ok (.iadd, 1) := by decide +kernel
theorem dL_law_631 : decode cL_law 631 = .ok (.iaload, 1) := by decide +kernel
theorem dL_law_632 : decode cL_law 632 = .ok (.invokevirtual 91, 3) := by decide +kernel
theorem dL_law_635 : decode cL_law 635 = .ok (.aload_n 2, 1) := by decide +kernel
theorem dL_law_636 : decode cL_law 636 = .ok (.aload_n 0, 1) := by decide +kernel
theorem dL_law_637 : decode cL_law 637 = .ok (.iload_n 3, 1) := by decide +kernel
theorem dL_law_638 : decode cL_law 638 = .ok (.iconst 1, 1) := by decide +kernel
theorem dL_law_639 : decode cL_law 639 = .ok (.iadd, 1) := by decide +kernel
theorem dL_law_640 : decode cL_law 640 = .ok (.iaload, 1) := by decide +kernel
theorem dL_law_641 : decode cL_law 641 = .ok (.invokevirtual 94, 3) := by decide +kernel
theorem dL_law_644 : decode cL_law 644 = .ok (.if_icmp .eq 374, 3) := by decide +kernel
theorem dL_law_647 : decode cL_law 647 = .ok (.iconst 0, 1) := by decide +kernel
theorem dL_law_648 : decode cL_law 648 = .ok (.ireturn, 1) := by decide +kernel
theorem dL_law_649 : decode cL_law 649 = .ok (.aload_n 1, 1) := by decide +kernel
theorem dL_law_650 : decode cL_law 650 = .ok (.aload_n 0, 1) := by decide +kernel
theorem dL_law_651 : decode cL_law 651 = .ok (.iload_n 3, 1) := by decide +kernel
theorem dL_law_652 : decode cL_law 652 = .ok (.iconst 1, 1) := by decide +kernel
theorem dL_law_653 : decode cL_law 653 = .ok (.iadd, 1) := by decide +kernel
theorem dL_law_654 : decode cL_law 654 = .ok (.iaload, 1) := by decide +kernel
theorem dL_law_655 : decode cL_law 655 = .ok (.invokevirtual 95, 3) := by decide +kernel
theorem dL_law_658 : decode cL_law 658 = .ok (.aload_n 2, 1) := by decide +kernel
theorem dL_law_659 : decode cL_law 659 = .ok (.aload_n 0, 1) := by decide +kernel
theorem dL_law_660 : decode cL_law 660 = .ok (.iload_n 3, 1) := by decide +kernel
theorem dL_law_661 : decode cL_law 661 = .ok (.iconst 1, 1) := by decide +kernel
theorem dL_law_662 : decode cL_law 662 = .ok (.iadd, 1) := by decide +kernel
theorem dL_law_663 : decode cL_law 663 = .ok (.iaload, 1) := by decide +kernel
theorem dL_law_664 : decode cL_law 664 = .ok (.invokevirtual 98, 3) := by decide +kernel
theorem dL_law_667 : decode cL_law 667 = .ok (.if_icmp .eq 351, 3) := by decide +kernel
theorem dL_law_670 : decode cL_law 670 = .ok (.iconst 0, 1) := by decide +kernel
theorem dL_law_671 : decode cL_law 671 = .ok (.ireturn, 1) := by decide +kernel
theorem dL_law_672 : decode cL_law 672 = .ok (.aload_n 1, 1) := by decide +kernel
theorem dL_law_673 : decode cL_law 673 = .ok (.aload_n 0, 1) := by decide +kernel
theorem dL_law_674 : decode cL_law 674 = .ok (.iload_n 3, 1) := by decide +kernel
theorem dL_law_675 : decode cL_law 675 = .ok (.iconst 1, 1) := by decide +kernel
theorem dL_law_676 : decode cL_law 676 = .ok (.iadd, 1) := by decide +kernel
theorem dL_law_677 : decode cL_law 677 = .ok (.iaload, 1) := by decide +kernel
theorem dL_law_678 : decode cL_law 678 = .ok (.aload_n 0, 1) := by decide +kernel
theorem dL_law_679 : decode cL_law 679 = .ok (.iload_n 3, 1) := by decide +kernel
theorem dL_law_680 : decode cL_law 680 = .ok (.iconst 2, 1) := by decide +kernel
theorem dL_law_681 : decode cL_law 681 = .ok (.iadd, 1) := by decide +kernel
theorem dL_law_682 : decode cL_law 682 = .ok (.iaload, 1) := by decide +kernel
theorem dL_law_683 : decode cL_law 683 = .ok (.invokevirtual 99, 3) := by decide +kernel
theorem dL_law_686 : decode cL_law 686 = .ok (.aload_n 2, 1) := by decide +kernel
theorem dL_law_687 : decode cL_law 687 = .ok (.aload_n 0, 1) := by decide +kernel
theorem dL_law_688 : decode cL_law 688 = .ok (.iload_n 3, 1) := by decide +kernel
theorem dL_law_689 : decode cL_law 689 = .ok (.iconst 1, 1) := by decide +kernel
theorem dL_law_690 : decode cL_law 690 = .ok (.iadd, 1) := by decide +kernel
theorem dL_law_691 : decode cL_law 691 = .ok (.iaload, 1) := by decide +kernel
theorem dL_law_692 : decode cL_law 692 = .ok (.aload_n 0, 1) := by decide +kernel
theorem dL_law_693 : decode cL_law 693 = .ok (.iload_n 3, 1) := by decide +kernel
theorem dL_law_694 : decode cL_law 694 = .ok (.iconst 2, 1) := by decide +kernel
theorem dL_law_695 : decode cL_law 695 = .ok (.iadd, 1) := by decide +kernel
theorem dL_law_696 : decode cL_law 696 = .ok (.iaload, 1) := by decide +kernel
theorem dL_law_697 : decode cL_law 697 = .ok (.invokevirtual 102, 3) := by decide +kernel
theorem dL_law_700 : decode cL_law 700 = .ok (.if_icmp .eq 318, 3) := by decide +kernel
theorem dL_law_703 : decode cL_law 703 = .ok (.iconst 0, 1) := by decide +kernel
theorem dL_law_704 : decode cL_law 704 = .ok (.ireturn, 1) := by decide +kernel
theorem dL_law_705 : decode cL_law 705 = .ok (.aload_n 1, 1) := by decide +kernel
theorem dL_law_706 : decode cL_law 706 = .ok (.aload_n 0, 1) := by decide +kernel
theorem dL_law_707 : decode cL_law 707 = .ok (.iload_n 3, 1) := by decide +kernel
theorem dL_law_708 : decode cL_law 708 = .ok (.iconst 1, 1) := by decide +kernel
theorem dL_law_709 : decode cL_law 709 = .ok (.iadd, 1) := by decide +kernel
theorem dL_law_710 : decode cL_law 710 = .ok (.iaload, 1) := by decide +kernel
theorem dL_law_711 : decode cL_law 711 = .ok (.aload_n 0, 1) := by decide +kernel
theorem dL_law_712 : decode cL_law 712 = .ok (.iload_n 3, 1) := by decide +kernel
theorem dL_law_713 : decode cL_law 713 = .ok (.iconst 2, 1) := by decide +kernel
theorem dL_law_714 : decode cL_law 714 = .ok (.iadd, 1) := by decide +kernel
theorem dL_law_715 : decode cL_law 715 = .ok (.iaload, 1) := by decide +kernel
theorem dL_law_716 : decode cL_law 716 = .ok (.aload_n 0, 1) := by decide +kernel
theorem dL_law_717 : decode cL_law 717 = .ok (.iload_n 3, 1) := by decide +kernel
theorem dL_law_718 : decode cL_law 718 = .ok (.iconst 3, 1) := by decide +kernel
theorem dL_law_719 : decode cL_law 719 = .ok (.iadd, 1) := by decide +kernel
theorem dL_law_720 : decode cL_law 720 = .ok (.iaload, 1) := by decide +kernel
theorem dL_law_721 : decode cL_law 721 = .ok (.invokevirtual 103, 3) := by decide +kernel
theorem dL_law_724 : decode cL_law 724 = .ok (.aload_n 2, 1) := by decide +kernel
theorem dL_law_725 : decode cL_law 725 = .ok (.aload_n 0, 1) := by decide +kernel
theorem dL_law_726 : decode cL_law 726 = .ok (.iload_n 3, 1) := by decide +kernel
theorem dL_law_727 : decode cL_law 727 = .ok (.iconst 1, 1) := by decide +kernel
theorem dL_law_728 : decode cL_law 728 = .ok (.iadd, 1) := by decide +kernel
theorem dL_law_729 : decode cL_law 729 = .ok (.iaload, 1) := by decide +kernel
theorem dL_law_730 : decode cL_law 730 = .ok (.aload_n 0, 1) := by decide +kernel
theorem dL_law_731 : decode cL_law 731 = .ok (.iload_n 3, 1) := by decide +kernel
theorem dL_law_732 : decode cL_law 732 = .ok (.iconst 2, 1) := by decide +kernel
theorem dL_law_733 : decode cL_law 733 = .ok (.iadd, 1) := by decide +kernel
theorem dL_law_734 : decode cL_law 734 = .ok (.iaload, 1) := by decide +kernel
theorem dL_law_735 : decode cL_law 735 = .ok (.aload_n 0, 1) := by decide +kernel
theorem dL_law_736 : decode cL_law 736 = .ok (.iload_n 3, 1) := by decide +kernel
theorem dL_law_737 : decode cL_law 737 = .ok (.iconst 3, 1) := by decide +kernel
theorem dL_law_738 : decode cL_law 738 = .ok (.iadd, 1) := by decide +kernel
theorem dL_law_739 : decode cL_law 739 = .ok (.iaload, 1) := by decide +kernel
theorem dL_law_740 : decode cL_law 740 = .ok (.invokevirtual 107, 3) := by decide +kernel
theorem dL_law_743 : decode cL_law 743 = .ok (.if_icmp .eq 275, 3) := by decide +kernel
theorem dL_law_746 : decode cL_law 746 = .ok (.iconst 0, 1) := by decide +kernel
theorem dL_law_747 : decode cL_law 747 = .ok (.ireturn, 1) := by decide +kernel
theorem dL_law_748 : decode cL_law 748 = .ok (.aload_n 1, 1) := by decide +kernel
theorem dL_law_749 : decode cL_law 749 = .ok (.aload_n 0, 1) := by decide +kernel
theorem dL_law_750 : decode cL_law 750 = .ok (.iload_n 3, 1) := by decide +kernel
theorem dL_law_751 : decode cL_law 751 = .ok (.iconst 1, 1) := by decide +kernel
theorem dL_law_752 : decode cL_law 752 = .ok (.iadd, 1) := by decide +kernel
theorem dL_law_753 : decode cL_law 753 = .ok (.iaload, 1) := by decide +kernel
theorem dL_law_754 : decode cL_law 754 = .ok (.aload_n 0, 1) := by decide +kernel
theorem dL_law_755 : decode cL_law 755 = .ok (.iload_n 3, 1) := by decide +kernel
theorem dL_law_756 : decode cL_law 756 = .ok (.iconst 2, 1) := by decide +kernel
theorem dL_law_757 : decode cL_law 757 = .ok (.iadd, 1) := by decide +kernel
theorem dL_law_758 : decode cL_law 758 = .ok (.iaload, 1) := by decide +kernel
theorem dL_law_759 : decode cL_law 759 = .ok (.invokevirtual 108, 3) := by decide +kernel
theorem dL_law_762 : decode cL_law 762 = .ok (.aload_n 2, 1) := by decide +kernel
theorem dL_law_763 : decode cL_law 763 = .ok (.aload_n 0, 1) := by decide +kernel
theorem dL_law_764 : decode cL_law 764 = .ok (.iload_n 3, 1) := by decide +kernel
theorem dL_law_765 : decode cL_law 765 = .ok (.iconst 1, 1) := by decide +kernel
theorem dL_law_766 : decode cL_law 766 = .ok (.iadd, 1) := by decide +kernel
theorem dL_law_767 : decode cL_law 767 = .ok (.iaload, 1) := by decide +kernel
theorem dL_law_768 : decode cL_law 768 = .ok (.aload_n 0, 1) := by decide +kernel
theorem dL_law_769 : decode cL_law 769 = .ok (.iload_n 3, 1) := by decide +kernel
theorem dL_law_770 : decode cL_law 770 = .ok (.iconst 2, 1) := by decide +kernel
theorem dL_law_771 : decode cL_law 771 = .ok (.iadd, 1) := by decide +kernel
theorem dL_law_772 : decode cL_law 772 = .ok (.iaload, 1) := by decide +kernel
theorem dL_law_773 : decode cL_law 773 = .ok (.invokevirtual 111, 3) := by decide +kernel
theorem dL_law_776 : decode cL_law 776 = .ok (.if_icmp .eq 242, 3) := by decide +kernel
theorem dL_law_779 : decode cL_law 779 = .ok (.iconst 0, 1) := by decide +kernel
theorem dL_law_780 : decode cL_law 780 = .ok (.ireturn, 1) := by decide +kernel
theorem dL_law_781 : decode cL_law 781 = .ok (.aload_n 1, 1) := by decide +kernel
theorem dL_law_782 : decode cL_law 782 = .ok (.aload_n 0, 1) := by decide +kernel
theorem dL_law_783 : decode cL_law 783 = .ok (.iload_n 3, 1) := by decide +kernel
theorem dL_law_784 : decode cL_law 784 = .ok (.iconst 1, 1) := by decide +kernel
theorem dL_law_785 : decode cL_law 785 = .ok (.iadd, 1) := by decide +kernel
theorem dL_law_786 : decode cL_law 786 = .ok (.iaload, 1) := by decide +kernel
theorem dL_law_787 : decode cL_law 787 = .ok (.aload_n 0, 1) := by decide +kernel
theorem dL_law_788 : decode cL_law 788 = .ok (.iload_n 3, 1) := by decide +kernel
theorem dL_law_789 : decode cL_law 789 = .ok (.iconst 2, 1) := by decide +kernel
theorem dL_law_790 : decode cL_law 790 = .ok (.iadd, 1) := by decide +kernel
theorem dL_law_791 : decode cL_law 791 = .ok (.iaload, 1) := by decide +kernel
theorem dL_law_792 : decode cL_law 792 = .ok (.ifCond .eq 7, 3) := by decide +kernel
theorem dL_law_795 : decode cL_law 795 = .ok (.iconst 1, 1) := by decide +kernel
theorem dL_law_796 : decode cL_law 796 = .ok (.goto 4, 3) := by decide +kernel
theorem dL_law_799 : decode cL_law 799 = .ok (.iconst 0, 1) := by decide +kernel
theorem dL_law_800 : decode cL_law 800 = .ok (.aload_n 0, 1) := by decide +kernel
theorem dL_law_801 : decode cL_law 801 = .ok (.iload_n 3, 1) := by decide +kernel
theorem dL_law_802 : decode cL_law 802 = .ok (.iconst 3, 1) := by decide +kernel
theorem dL_law_803 : decode cL_law 803 = .ok (.iadd, 1) := by decide +kernel
theorem dL_law_804 : decode cL_law 804 = .ok (.iaload, 1) := by decide +kernel
theorem dL_law_805 : decode cL_law 805 = .ok (.aload_n 0, 1) := by decide +kernel
theorem dL_law_806 : decode cL_law 806 = .ok (.iload_n 3, 1) := by decide +kernel
theorem dL_law_807 : decode cL_law 807 = .ok (.iconst 4, 1) := by decide +kernel
theorem dL_law_808 : decode cL_law 808 = .ok (.iadd, 1) := by decide +kernel
theorem dL_law_809 : decode cL_law 809 = .ok (.iaload, 1) := by decide +kernel
theorem dL_law_810 : decode cL_law 810 = .ok (.invokevirtual 112, 3) := by decide +kernel
theorem dL_law_813 : decode cL_law 813 = .ok (.aload_n 2, 1) := by decide +kernel
theorem dL_law_814 : decode cL_law 814 = .ok (.aload_n 0, 1) := by decide +kernel
theorem dL_law_815 : decode cL_law 815 = .ok (.iload_n 3, 1) := by decide +kernel
theorem dL_law_816 : decode cL_law 816 = .ok (.iconst 1, 1) := by decide +kernel
theorem dL_law_817 : decode cL_law 817 = .ok (.iadd, 1) := by decide +kernel
theorem dL_law_818 : decode cL_law 818 = .ok (.iaload, 1) := by decide +kernel
theorem dL_law_819 : decode cL_law 819 = .ok (.aload_n 0, 1) := by decide +kernel
theorem dL_law_820 : decode cL_law 820 = .ok (.iload_n 3, 1) := by decide +kernel
theorem dL_law_821 : decode cL_law 821 = .ok (.iconst 2, 1) := by decide +kernel
theorem dL_law_822 : decode cL_law 822 = .ok (.iadd, 1) := by decide +kernel
theorem dL_law_823 : decode cL_law 823 = .ok (.iaload, 1) := by decide +kernel
theorem dL_law_824 : decode cL_law 824 = .ok (.ifCond .eq 7, 3) := by decide +kernel
theorem dL_law_827 : decode cL_law 827 = .ok (.iconst 1, 1) := by decide +kernel
theorem dL_law_828 : decode cL_law 828 = .ok (.goto 4, 3) := by decide +kernel
theorem dL_law_831 : decode cL_law 831 = .ok (.iconst 0, 1) := by decide +kernel
theorem dL_law_832 : decode cL_law 832 = .ok (.aload_n 0, 1) := by decide +kernel
theorem dL_law_833 : decode cL_law 833 = .ok (.iload_n 3, 1) := by decide +kernel
theorem dL_law_834 : decode cL_law 834 = .ok (.iconst 3, 1) := by decide +kernel
theorem dL_law_835 : decode cL_law 835 = .ok (.iadd, 1) := by decide +kernel
theorem dL_law_836 : decode cL_law 836 = .ok (.iaload, 1) := by decide +kernel
theorem dL_law_837 : decode cL_law 837 = .ok (.aload_n 0, 1) := by decide +kernel
theorem dL_law_838 : decode cL_law 838 = .ok (.iload_n 3, 1) := by decide +kernel
theorem dL_law_839 : decode cL_law 839 = .ok (.iconst 4, 1) := by decide +kernel
theorem dL_law_840 : decode cL_law 840 = .ok (.iadd, 1) := by decide +kernel
theorem dL_law_841 : decode cL_law 841 = .ok (.iaload, 1) := by decide +kernel
theorem dL_law_842 : decode cL_law 842 = .ok (.invokevirtual 116, 3) := by decide +kernel
theorem dL_law_845 : decode cL_law 845 = .ok (.if_icmp .eq 173, 3) := by decide +kernel
theorem dL_law_848 : decode cL_law 848 = .ok (.iconst 0, 1) := by decide +kernel
theorem dL_law_849 : decode cL_law 849 = .ok (.ireturn, 1) := by decide +kernel
theorem dL_law_850 : decode cL_law 850 = .ok (.aload_n 1, 1) := by decide +kernel
theorem dL_law_851 : decode cL_law 851 = .ok (.aload_n 0, 1) := by decide +kernel
theorem dL_law_852 : decode cL_law 852 = .ok (.iload_n 3, 1) := by decide +kernel
theorem dL_law_853 : decode cL_law 853 = .ok (.iconst 1, 1) := by decide +kernel
theorem dL_law_854 : decode cL_law 854 = .ok (.iadd, 1) := by decide +kernel
theorem dL_law_855 : decode cL_law 855 = .ok (.iaload, 1) := by decide +kernel
theorem dL_law_856 : decode cL_law 856 = .ok (.aload_n 0, 1) := by decide +kernel
theorem dL_law_857 : decode cL_law 857 = .ok (.iload_n 3, 1) := by decide +kernel
theorem dL_law_858 : decode cL_law 858 = .ok (.iconst 2, 1) := by decide +kernel
theorem dL_law_859 : decode cL_law 859 = .ok (.iadd, 1) := by decide +kernel
theorem dL_law_860 : decode cL_law 860 = .ok (.iaload, 1) := by decide +kernel
theorem dL_law_861 : decode cL_law 861 = .ok (.aload_n 0, 1) := by decide +kernel
theorem dL_law_862 : decode cL_law 862 = .ok (.iload_n 3, 1) := by decide +kernel
theorem dL_law_863 : decode cL_law 863 = .ok (.iconst 3, 1) := by decide +kernel
theorem dL_law_864 : decode cL_law 864 = .ok (.iadd, 1) := by decide +kernel
theorem dL_law_865 : decode cL_law 865 = .ok (.iaload, 1) := by decide +kernel
theorem dL_law_866 : decode cL_law 866 = .ok (.invokevirtual 117, 3) := by decide +kernel
theorem dL_law_869 : decode cL_law 869 = .ok (.aload_n 2, 1) := by decide +kernel
theorem dL_law_870 : decode cL_law 870 = .ok (.aload_n 0, 1) := by decide +kernel
theorem dL_law_871 : decode cL_law 871 = .ok (.iload_n 3, 1) := by decide +kernel
theorem dL_law_872 : decode cL_law 872 = .ok (.iconst 1, 1) := by decide +kernel
theorem dL_law_873 : decode cL_law 873 = .ok (.iadd, 1) := by decide +kernel
theorem dL_law_874 : decode cL_law 874 = .ok (.iaload, 1) := by decide +kernel
theorem dL_law_875 : decode cL_law 875 = .ok (.aload_n 0, 1) := by decide +kernel
theorem dL_law_876 : decode cL_law 876 = .ok (.iload_n 3, 1) := by decide +kernel
theorem dL_law_877 : decode cL_law 877 = .ok (.iconst 2, 1) := by decide +kernel
theorem dL_law_878 : decode cL_law 878 = .ok (.iadd, 1) := by decide +kernel
theorem dL_law_879 : decode cL_law 879 = .ok (.iaload, 1) := by decide +kernel
theorem dL_law_880 : decode cL_law 880 = .ok (.aload_n 0, 1) := by decide +kernel
theorem dL_law_881 : decode cL_law 881 = .ok (.iload_n 3, 1) := by decide +kernel
theorem dL_law_882 : decode cL_law 882 = .ok (.iconst 3, 1) := by decide +kernel
theorem dL_law_883 : decode cL_law 883 = .ok (.iadd, 1) := by decide +kernel
theorem dL_law_884 : decode cL_law 884 = .ok (.iaload, 1) := by decide +kernel
theorem dL_law_885 : decode cL_law 885 = .ok (.invokevirtual 120, 3) := by decide +kernel
theorem dL_law_888 : decode cL_law 888 = .ok (.if_icmp .eq 130, 3) := by decide +kernel
theorem dL_law_891 : decode cL_law 891 = .ok (.iconst 0, 1) := by decide +kernel
theorem dL_law_892 : decode cL_law 892 = .ok (.ireturn, 1) := by decide +kernel
theorem dL_law_893 : decode cL_law 893 = .ok (.aload_n 1, 1) := by decide +kernel
theorem dL_law_894 : decode cL_law 894 = .ok (.aload_n 0, 1) := by decide +kernel
theorem dL_law_895 : decode cL_law 895 = .ok (.iload_n 3, 1) := by decide +kernel
theorem dL_law_896 : decode cL_law 896 = .ok (.iconst 1, 1) := by decide +kernel
theorem dL_law_897 : decode cL_law 897 = .ok (.iadd, 1) := by decide +kernel
theorem dL_law_898 : decode cL_law 898 = .ok (.iaload, 1) := by decide +kernel
theorem dL_law_899 : decode cL_law 899 = .ok (.aload_n 0, 1) := by decide +kernel
theorem dL_law_900 : decode cL_law 900 = .ok (.iload_n 3, 1) := by decide +kernel
theorem dL_law_901 : decode cL_law 901 = .ok (.iconst 2, 1) := by decide +kernel
theorem dL_law_902 : decode cL_law 902 = .ok (.iadd, 1) := by decide +kernel
theorem dL_law_903 : decode cL_law 903 = .ok (.iaload, 1) := by decide +kernel
theorem dL_law_904 : decode cL_law 904 = .ok (.invokevirtual 121, 3) := by decide +kernel
theorem dL_law_907 : decode cL_law 907 = .ok (.aload_n 2, 1) := by decide +kernel
theorem dL_law_908 : decode cL_law 908 = .ok (.aload_n 0, 1) := by decide +kernel
theorem dL_law_909 : decode cL_law 909 = .ok (.iload_n 3, 1) := by decide +kernel
theorem dL_law_910 : decode cL_law 910 = .ok (.iconst 1, 1) := by decide +kernel
theorem dL_law_911 : decode cL_law 911 = .ok (.iadd, 1) := by decide +kernel
theorem dL_law_912 : decode cL_law 912 = .ok (.iaload, 1) := by decide +kernel
theorem dL_law_913 : decode cL_law 913 = .ok (.aload_n 0, 1) := by decide +kernel
theorem dL_law_914 : decode cL_law 914 = .ok (.iload_n 3, 1) := by decide +kernel
theorem dL_law_915 : decode cL_law 915 = .ok (.iconst 2, 1) := by decide +kernel
theorem dL_law_916 : decode cL_law 916 = .ok (.iadd, 1) := by decide +kernel
theorem dL_law_917 : decode cL_law 917 = .ok (.iaload, 1) := by decide +kernel
theorem dL_law_918 : decode cL_law 918 = .ok (.invokevirtual 124, 3) := by decide +kernel
theorem dL_law_921 : decode cL_law 921 = .ok (.if_icmp .eq 97, 3) := by decide +kernel
theorem dL_law_924 : decode cL_law 924 = .ok (.iconst 0, 1) := by decide +kernel
theorem dL_law_925 : decode cL_law 925 = .ok (.ireturn, 1) := by decide +kernel
theorem dL_law_926 : decode cL_law 926 = .ok (.aload_n 1, 1) := by decide +kernel
theorem dL_law_927 : decode cL_law 927 = .ok (.aload_n 0, 1) := by decide +kernel
theorem dL_law_928 : decode cL_law 928 = .ok (.iload_n 3, 1) := by decide +kernel
theorem dL_law_929 : decode cL_law 929 = .ok (.iconst 1, 1) := by decide +kernel
theorem dL_law_930 : decode cL_law 930 = .ok (.iadd, 1) := by decide +kernel
theorem dL_law_931 : decode cL_law 931 = .ok (.iaload, 1) := by decide +kernel
theorem dL_law_932 : decode cL_law 932 = .ok (.invokevirtual 125, 3) := by decide +kernel
theorem dL_law_935 : decode cL_law 935 = .ok (.aload_n 2, 1) := by decide +kernel
theorem dL_law_936 : decode cL_law 936 = .ok (.aload_n 0, 1) := by decide +kernel
theorem dL_law_937 : decode cL_law 937 = .ok (.iload_n 3, 1) := by decide +kernel
theorem dL_law_938 : decode cL_law 938 = .ok (.iconst 1, 1) := by decide +kernel
theorem dL_law_939 : decode cL_law 939 = .ok (.iadd, 1) := by decide +kernel
theorem dL_law_940 : decode cL_law 940 = .ok (.iaload, 1) := by decide +kernel
theorem dL_law_941 : decode cL_law 941 = .ok (.invokevirtual 128, 3) := by decide +kernel
theorem dL_law_944 : decode cL_law 944 = .ok (.if_icmp .eq 74, 3) := by decide +kernel
theorem dL_law_947 : decode cL_law 947 = .ok (.iconst 0, 1) := by decide +kernel
theorem dL_law_948 : decode cL_law 948 = .ok (.ireturn, 1) := by decide +kernel
theorem dL_law_949 : decode cL_law 949 = .ok (.aload_n 1, 1) := by decide +kernel
theorem dL_law_950 : decode cL_law 950 = .ok (.invokevirtual 129, 3) := by decide +kernel
theorem dL_law_953 : decode cL_law 953 = .ok (.aload_n 2, 1) := by decide +kernel
theorem dL_law_954 : decode cL_law 954 = .ok (.invokevirtual 133, 3) := by decide +kernel
theorem dL_law_957 : decode cL_law 957 = .ok (.if_icmp .eq 61, 3) := by decide +kernel
theorem dL_law_960 : decode cL_law 960 = .ok (.iconst 0, 1) := by decide +kernel
theorem dL_law_961 : decode cL_law 961 = .ok (.ireturn, 1) := by decide +kernel
theorem dL_law_962 : decode cL_law 962 = .ok (.aload_n 1, 1) := by decide +kernel
theorem dL_law_963 : decode cL_law 963 = .ok (.aload_n 0, 1) := by decide +kernel
theorem dL_law_964 : decode cL_law 964 = .ok (.iload_n 3, 1) := by decide +kernel
theorem dL_law_965 : decode cL_law 965 = .ok (.iconst 1, 1) := by decide +kernel
theorem dL_law_966 : decode cL_law 966 = .ok (.iadd, 1) := by decide +kernel
theorem dL_law_967 : decode cL_law 967 = .ok (.iaload, 1) := by decide +kernel
theorem dL_law_968 : decode cL_law 968 = .ok (.invokevirtual 134, 3) := by decide +kernel
theorem dL_law_971 : decode cL_law 971 = .ok (.aload_n 2, 1) := by decide +kernel
theorem dL_law_972 : decode cL_law 972 = .ok (.aload_n 0, 1) := by decide +kernel
theorem dL_law_973 : decode cL_law 973 = .ok (.iload_n 3, 1) := by decide +kernel
theorem dL_law_974 : decode cL_law 974 = .ok (.iconst 1, 1) := by decide +kernel
theorem dL_law_975 : decode cL_law 975 = .ok (.iadd, 1) := by decide +kernel
theorem dL_law_976 : decode cL_law 976 = .ok (.iaload, 1) := by decide +kernel
theorem dL_law_977 : decode cL_law 977 = .ok (.invokevirtual 137, 3) := by decide +kernel
theorem dL_law_980 : decode cL_law 980 = .ok (.if_icmp .eq 38, 3) := by decide +kernel
theorem dL_law_983 : decode cL_law 983 = .ok (.iconst 0, 1) := by decide +kernel
theorem dL_law_984 : decode cL_law 984 = .ok (.ireturn, 1) := by decide +kernel
theorem dL_law_985 : decode cL_law 985 = .ok (.aload_n 1, 1) := by decide +kernel
theorem dL_law_986 : decode cL_law 986 = .ok (.aload_n 0, 1) := by decide +kernel
theorem dL_law_987 : decode cL_law 987 = .ok (.iload_n 3, 1) := by decide +kernel
theorem dL_law_988 : decode cL_law 988 = .ok (.iconst 1, 1) := by decide +kernel
theorem dL_law_989 : decode cL_law 989 = .ok (.iadd, 1) := by decide +kernel
theorem dL_law_990 : decode cL_law 990 = .ok (.iaload, 1) := by decide +kernel
theorem dL_law_991 : decode cL_law 991 = .ok (.aload_n 0, 1) := by decide +kernel
theorem dL_law_992 : decode cL_law 992 = .ok (.iload_n 3, 1) := by decide +kernel
theorem dL_law_993 : decode cL_law 993 = .ok (.iconst 2, 1) := by decide +kernel
theorem dL_law_994 : decode cL_law 994 = .ok (.iadd, 1) := by decide +kernel
theorem dL_law_995 : decode cL_law 995 = .ok (.iaload, 1) := by decide +kernel
theorem dL_law_996 : decode cL_law 996 = .ok (.invokevirtual 138, 3) := by decide +kernel
theorem dL_law_999 : decode cL_law 999 = .ok (.aload_n 2, 1) := by decide +kernel
theorem dL_law_1000 : decode cL_law 1000 = .ok (.aload_n 0, 1) := by decide +kernel
theorem dL_law_1001 : decode cL_law 1001 = .ok (.iload_n 3, 1) := by decide +kernel
theorem dL_law_1002 : decode cL_law 1002 = .ok (.iconst 1, 1) := by decide +kernel
theorem dL_law_1003 : decode cL_law 1003 = .ok (.iadd, 1) := by decide +kernel
theorem dL_law_1004 : decode cL_law 1004 = .ok (.iaload, 1) := by decide +kernel
theorem dL_law_1005 : decode cL_law 1005 = .ok (.aload_n 0, 1) := by decide +kernel
theorem dL_law_1006 : decode cL_law 1006 = .ok (.iload_n 3, 1) := by decide +kernel
theorem dL_law_1007 : decode cL_law 1007 = .ok (.iconst 2, 1) := by decide +kernel
theorem dL_law_1008 : decode cL_law 1008 = .ok (.iadd, 1) := by decide +kernel
theorem dL_law_1009 : decode cL_law 1009 = .ok (.iaload, 1) := by decide +kernel
theorem dL_law_1010 : decode cL_law 1010 = .ok (.invokevirtual 141, 3) := by decide +kernel
theorem dL_law_1013 : decode cL_law 1013 = .ok (.if_icmp .eq 5, 3) := by decide +kernel
theorem dL_law_1016 : decode cL_law 1016 = .ok (.iconst 0, 1) := by decide +kernel
theorem dL_law_1017 : decode cL_law 1017 = .ok (.ireturn, 1) := by decide +kernel
theorem dL_law_1018 : decode cL_law 1018 = .ok (.iinc 3 6, 3) := by decide +kernel
theorem dL_law_1021 : decode cL_law 1021 = .ok (.goto (-983), 3) := by decide +kernel
theorem dL_law_1024 : decode cL_law 1024 = .ok (.iconst 1, 1) := by decide +kernel
theorem dL_law_1025 : decode cL_law 1025 = .ok (.ireturn, 1) := by decide +kernel
noncomputable def j_L_law_1018 (g : GG) (x1 x2 x3 : Int) (M : MM) : Option ((Int × MM) ⊕ (Int × MM)) :=
  cnt (x3 + 6, M)
noncomputable def j_L_law_985 (g : GG) (x1 x2 x3 : Int) (M : MM) : Option ((Int × MM) ⊕ (Int × MM)) :=
  (sld g (x3 + 1)).bind fun v1 =>
  (sld g (x3 + 2)).bind fun v2 =>
  ck 1 x1 M <| (f_X1_truth x1 v1 v2 M).bind fun r1 =>
  (sld g (x3 + 1)).bind fun v3 =>
  (sld g (x3 + 2)).bind fun v4 =>
  mck x2 r1.2 <| ((f_X16_truth v3 v4 r1.2.1).map fun r => (r.1, wr r1.2 r.2)).bind fun r2 =>
  if w32 r1.1 = w32 r2.1 then
    j_L_law_1018 g x1 x2 x3 r2.2
  else
    xit (some (0, r2.2))
noncomputable def j_L_law_962 (g : GG) (x1 x2 x3 : Int) (M : MM) : Option ((Int × MM) ⊕ (Int × MM)) :=
  (sld g (x3 + 1)).bind fun v1 =>
  ck 1 x1 M <| (f_X1_nearest x1 v1 M).bind fun r1 =>
  (sld g (x3 + 1)).bind fun v2 =>
  mck x2 r1.2 <| ((f_X16_nearest v2 r1.2.1).map fun r => (r.1, wr r1.2 r.2)).bind fun r2 =>
  if w32 r1.1 = w32 r2.1 then
    j_L_law_1018 g x1 x2 x3 r2.2
  else
    xit (some (0, r2.2))
noncomputable def j_L_law_949 (g : GG) (x1 x2 x3 : Int) (M : MM) : Option ((Int × MM) ⊕ (Int × MM)) :=
  ck 1 x1 M <| (f_X1_stable x1 M).bind fun v1 =>
  mck x2 M <| (f_X16_stable M.1).bind fun v2 =>
  if w32 v1 = w32 v2 then
    j_L_law_1018 g x1 x2 x3 M
  else
    xit (some (0, M))
noncomputable def j_L_law_926 (g : GG) (x1 x2 x3 : Int) (M : MM) : Option ((Int × MM) ⊕ (Int × MM)) :=
  (sld g (x3 + 1)).bind fun v1 =>
  ck 1 x1 M <| (f_X1_look x1 v1 M).bind fun v2 =>
  (sld g (x3 + 1)).bind fun v3 =>
  mck x2 M <| (f_X16_look v3 M.1).bind fun v4 =>
  if w32 v2 = w32 v4 then
    j_L_law_1018 g x1 x2 x3 M
  else
    xit (some (0, M))
noncomputable def j_L_law_893 (g : GG) (x1 x2 x3 : Int) (M : MM) : Option ((Int × MM) ⊕ (Int × MM)) :=
  (sld g (x3 + 1)).bind fun v1 =>
  (sld g (x3 + 2)).bind fun v2 =>
  ck 1 x1 M <| (f_X1_flight x1 v1 v2 M).bind fun v3 =>
  (sld g (x3 + 1)).bind fun v4 =>
  (sld g (x3 + 2)).bind fun v5 =>
  mck x2 M <| (f_X16_flight v4 v5 M.1).bind fun v6 =>
  if w32 v3 = w32 v6 then
    j_L_law_1018 g x1 x2 x3 M
  else
    xit (some (0, M))
noncomputable def j_L_law_850 (g : GG) (x1 x2 x3 : Int) (M : MM) : Option ((Int × MM) ⊕ (Int × MM)) :=
  (sld g (x3 + 1)).bind fun v1 =>
  (sld g (x3 + 2)).bind fun v2 =>
  (sld g (x3 + 3)).bind fun v3 =>
  ck 1 x1 M <| (f_X1_posting x1 v1 v2 v3 M).bind fun v4 =>
  (sld g (x3 + 1)).bind fun v5 =>
  (sld g (x3 + 2)).bind fun v6 =>
  (sld g (x3 + 3)).bind fun v7 =>
  mck x2 M <| (f_X16_posting v5 v6 v7 M.1).bind fun v8 =>
  if w32 v4 = w32 v8 then
    j_L_law_1018 g x1 x2 x3 M
  else
    xit (some (0, M))
noncomputable def j_L_law_832 (g : GG) (x1 x2 x3 y0 y1 y2 y3 : Int) (M : MM) : Option ((Int × MM) ⊕ (Int × MM)) :=
  (sld g (x3 + 3)).bind fun v1 =>
  (sld g (x3 + 4)).bind fun v2 =>
  mck y1 M <| (f_X16_contact y2 y3 v1 v2 M.1).bind fun v3 =>
  if w32 y0 = w32 v3 then
    j_L_law_1018 g x1 x2 x3 M
  else
    xit (some (0, M))
noncomputable def j_L_law_800 (g : GG) (x1 x2 x3 y0 y1 y2 : Int) (M : MM) : Option ((Int × MM) ⊕ (Int × MM)) :=
  (sld g (x3 + 3)).bind fun v1 =>
  (sld g (x3 + 4)).bind fun v2 =>
  ck 1 y0 M <| (f_X1_contact y0 y1 y2 v1 v2 M).bind fun v3 =>
  (sld g (x3 + 1)).bind fun v4 =>
  (sld g (x3 + 2)).bind fun v5 =>
  if w32 v5 = 0 then
    j_L_law_832 g x1 x2 x3 v3 x2 v4 0 M
  else
    j_L_law_832 g x1 x2 x3 v3 x2 v4 1 M
noncomputable def j_L_law_781 (g : GG) (x1 x2 x3 : Int) (M : MM) : Option ((Int × MM) ⊕ (Int × MM)) :=
  (sld g (x3 + 1)).bind fun v1 =>
  (sld g (x3 + 2)).bind fun v2 =>
  if w32 v2 = 0 then
    j_L_law_800 g x1 x2 x3 x1 v1 0 M
  else
    j_L_law_800 g x1 x2 x3 x1 v1 1 M
noncomputable def j_L_law_748 (g : GG) (x1 x2 x3 : Int) (M : MM) : Option ((Int × MM) ⊕ (Int × MM)) :=
  (sld g (x3 + 1)).bind fun v1 =>
  (sld g (x3 + 2)).bind fun v2 =>
  ck 1 x1 M <| (f_X1_count x1 v1 v2 M).bind fun v3 =>
  (sld g (x3 + 1)).bind fun v4 =>
  (sld g (x3 + 2)).bind fun v5 =>
  mck x2 M <| (f_X16_count v4 v5 M.1).bind fun v6 =>
  if w32 v3 = w32 v6 then
    j_L_law_1018 g x1 x2 x3 M
  else
    xit (some (0, M))
noncomputable def j_L_law_705 (g : GG) (x1 x2 x3 : Int) (M : MM) : Option ((Int × MM) ⊕ (Int × MM)) :=
  (sld g (x3 + 1)).bind fun v1 =>
  (sld g (x3 + 2)).bind fun v2 =>
  (sld g (x3 + 3)).bind fun v3 =>
  ck 1 x1 M <| (f_X1_found x1 v1 v2 v3 M).bind fun v4 =>
  (sld g (x3 + 1)).bind fun v5 =>
  (sld g (x3 + 2)).bind fun v6 =>
  (sld g (x3 + 3)).bind fun v7 =>
  mck x2 M <| (f_X16_found v5 v6 v7 M.1).bind fun v8 =>
  if w32 v4 = w32 v8 then
    j_L_law_1018 g x1 x2 x3 M
  else
    xit (some (0, M))
noncomputable def j_L_law_672 (g : GG) (x1 x2 x3 : Int) (M : MM) : Option ((Int × MM) ⊕ (Int × MM)) :=
  (sld g (x3 + 1)).bind fun v1 =>
  (sld g (x3 + 2)).bind fun v2 =>
  ck 1 x1 M <| (f_X1_task x1 v1 v2 M).bind fun v3 =>
  (sld g (x3 + 1)).bind fun v4 =>
  (sld g (x3 + 2)).bind fun v5 =>
  mck x2 M <| (f_X16_task v4 v5 M.1).bind fun v6 =>
  if w32 v3 = w32 v6 then
    j_L_law_1018 g x1 x2 x3 M
  else
    xit (some (0, M))
noncomputable def j_L_law_649 (g : GG) (x1 x2 x3 : Int) (M : MM) : Option ((Int × MM) ⊕ (Int × MM)) :=
  (sld g (x3 + 1)).bind fun v1 =>
  ck 1 x1 M <| (f_X1_rest x1 v1 M).bind fun r1 =>
  (sld g (x3 + 1)).bind fun v2 =>
  mck x2 r1.2 <| ((f_X16_rest v2 r1.2.1).map fun r => (r.1, wr r1.2 r.2)).bind fun r2 =>
  if w32 r1.1 = w32 r2.1 then
    j_L_law_1018 g x1 x2 x3 r2.2
  else
    xit (some (0, r2.2))
noncomputable def j_L_law_626 (g : GG) (x1 x2 x3 : Int) (M : MM) : Option ((Int × MM) ⊕ (Int × MM)) :=
  (sld g (x3 + 1)).bind fun v1 =>
  ck 1 x1 M <| (f_X1_run x1 v1 M).bind fun r1 =>
  (sld g (x3 + 1)).bind fun v2 =>
  mck x2 r1.2 <| ((f_X16_run v2 r1.2.1).map fun r => (r.1, wr r1.2 r.2)).bind fun r2 =>
  if w32 r1.1 = w32 r2.1 then
    j_L_law_1018 g x1 x2 x3 r2.2
  else
    xit (some (0, r2.2))
noncomputable def j_L_law_593 (g : GG) (x1 x2 x3 : Int) (M : MM) : Option ((Int × MM) ⊕ (Int × MM)) :=
  (sld g (x3 + 1)).bind fun v1 =>
  (sld g (x3 + 2)).bind fun v2 =>
  ck 1 x1 M <| (f_X1_forge x1 v1 v2 M).bind fun r1 =>
  (sld g (x3 + 1)).bind fun v3 =>
  (sld g (x3 + 2)).bind fun v4 =>
  mck x2 r1.2 <| ((f_X16_forge v3 v4 r1.2.1).map fun r => (r.1, wr r1.2 r.2)).bind fun r2 =>
  if w32 r1.1 = w32 r2.1 then
    j_L_law_1018 g x1 x2 x3 r2.2
  else
    xit (some (0, r2.2))
noncomputable def j_L_law_570 (g : GG) (x1 x2 x3 : Int) (M : MM) : Option ((Int × MM) ⊕ (Int × MM)) :=
  (sld g (x3 + 1)).bind fun v1 =>
  ck 1 x1 M <| (f_X1_query x1 v1 M).bind fun r1 =>
  (sld g (x3 + 1)).bind fun v2 =>
  mck x2 r1.2 <| ((f_X16_query v2 r1.2.1).map fun r => (r.1, wr r1.2 r.2)).bind fun r2 =>
  if w32 r1.1 = w32 r2.1 then
    j_L_law_1018 g x1 x2 x3 r2.2
  else
    xit (some (0, r2.2))
noncomputable def j_L_law_547 (g : GG) (x1 x2 x3 : Int) (M : MM) : Option ((Int × MM) ⊕ (Int × MM)) :=
  (sld g (x3 + 1)).bind fun v1 =>
  ck 1 x1 M <| (f_X1_lookup x1 v1 M).bind fun r1 =>
  (sld g (x3 + 1)).bind fun v2 =>
  mck x2 r1.2 <| ((f_X16_lookup v2 r1.2.1).map fun r => (r.1, wr r1.2 r.2)).bind fun r2 =>
  if w32 r1.1 = w32 r2.1 then
    j_L_law_1018 g x1 x2 x3 r2.2
  else
    xit (some (0, r2.2))
noncomputable def j_L_law_524 (g : GG) (x1 x2 x3 : Int) (M : MM) : Option ((Int × MM) ⊕ (Int × MM)) :=
  (sld g (x3 + 1)).bind fun v1 =>
  ck 1 x1 M <| (f_X1_publish x1 v1 M).bind fun r1 =>
  (sld g (x3 + 1)).bind fun v2 =>
  mck x2 r1.2 <| ((f_X16_publish v2 r1.2.1).map fun r => (r.1, wr r1.2 r.2)).bind fun r2 =>
  if w32 r1.1 = w32 r2.1 then
    j_L_law_1018 g x1 x2 x3 r2.2
  else
    xit (some (0, r2.2))
noncomputable def j_L_law_501 (g : GG) (x1 x2 x3 : Int) (M : MM) : Option ((Int × MM) ⊕ (Int × MM)) :=
  (sld g (x3 + 1)).bind fun v1 =>
  ck 1 x1 M <| (f_X1_document x1 v1 M).bind fun r1 =>
  (sld g (x3 + 1)).bind fun v2 =>
  mck x2 r1.2 <| ((f_X16_document v2 r1.2.1).map fun r => (r.1, wr r1.2 r.2)).bind fun r2 =>
  if w32 r1.1 = w32 r2.1 then
    j_L_law_1018 g x1 x2 x3 r2.2
  else
    xit (some (0, r2.2))
noncomputable def j_L_law_478 (g : GG) (x1 x2 x3 : Int) (M : MM) : Option ((Int × MM) ⊕ (Int × MM)) :=
  (sld g (x3 + 1)).bind fun v1 =>
  ck 1 x1 M <| (f_X1_leave x1 v1 M).bind fun r1 =>
  (sld g (x3 + 1)).bind fun v2 =>
  mck x2 r1.2 <| ((f_X16_leave v2 r1.2.1).map fun r => (r.1, wr r1.2 r.2)).bind fun r2 =>
  if w32 r1.1 = w32 r2.1 then
    j_L_law_1018 g x1 x2 x3 r2.2
  else
    xit (some (0, r2.2))
noncomputable def j_L_law_455 (g : GG) (x1 x2 x3 : Int) (M : MM) : Option ((Int × MM) ⊕ (Int × MM)) :=
  (sld g (x3 + 1)).bind fun v1 =>
  ck 1 x1 M <| (f_X1_crash x1 v1 M).bind fun r1 =>
  (sld g (x3 + 1)).bind fun v2 =>
  mck x2 r1.2 <| ((f_X16_crash v2 r1.2.1).map fun r => (r.1, wr r1.2 r.2)).bind fun r2 =>
  if w32 r1.1 = w32 r2.1 then
    j_L_law_1018 g x1 x2 x3 r2.2
  else
    xit (some (0, r2.2))
noncomputable def j_L_law_422 (g : GG) (x1 x2 x3 : Int) (M : MM) : Option ((Int × MM) ⊕ (Int × MM)) :=
  (sld g (x3 + 1)).bind fun v1 =>
  (sld g (x3 + 2)).bind fun v2 =>
  ck 1 x1 M <| (f_X1_join x1 v1 v2 M).bind fun r1 =>
  (sld g (x3 + 1)).bind fun v3 =>
  (sld g (x3 + 2)).bind fun v4 =>
  mck x2 r1.2 <| ((f_X16_join v3 v4 r1.2.1).map fun r => (r.1, wr r1.2 r.2)).bind fun r2 =>
  if w32 r1.1 = w32 r2.1 then
    j_L_law_1018 g x1 x2 x3 r2.2
  else
    xit (some (0, r2.2))
noncomputable def j_L_law_399 (g : GG) (x1 x2 x3 : Int) (M : MM) : Option ((Int × MM) ⊕ (Int × MM)) :=
  (sld g (x3 + 1)).bind fun v1 =>
  ck 1 x1 M <| (f_X1_start x1 v1 M).bind fun r1 =>
  (sld g (x3 + 1)).bind fun v2 =>
  mck x2 r1.2 <| ((f_X16_start v2 r1.2.1).map fun r => (r.1, wr r1.2 r.2)).bind fun r2 =>
  if w32 r1.1 = w32 r2.1 then
    j_L_law_1018 g x1 x2 x3 r2.2
  else
    xit (some (0, r2.2))
noncomputable def j_L_law_366 (g : GG) (x1 x2 x3 : Int) (M : MM) : Option ((Int × MM) ⊕ (Int × MM)) :=
  (sld g (x3 + 1)).bind fun v1 =>
  (sld g (x3 + 2)).bind fun v2 =>
  ck 1 x1 M <| (f_X1_side x1 v1 v2 M).bind fun r1 =>
  (sld g (x3 + 1)).bind fun v3 =>
  (sld g (x3 + 2)).bind fun v4 =>
  mck x2 r1.2 <| ((f_X16_side v3 v4 r1.2.1).map fun r => (r.1, wr r1.2 r.2)).bind fun r2 =>
  if w32 r1.1 = w32 r2.1 then
    j_L_law_1018 g x1 x2 x3 r2.2
  else
    xit (some (0, r2.2))
noncomputable def j_L_law_333 (g : GG) (x1 x2 x3 : Int) (M : MM) : Option ((Int × MM) ⊕ (Int × MM)) :=
  (sld g (x3 + 1)).bind fun v1 =>
  (sld g (x3 + 2)).bind fun v2 =>
  ck 1 x1 M <| (f_X1_set x1 v1 v2 M).bind fun r1 =>
  (sld g (x3 + 1)).bind fun v3 =>
  (sld g (x3 + 2)).bind fun v4 =>
  mck x2 r1.2 <| ((f_X16_set v3 v4 r1.2.1).map fun r => (r.1, wr r1.2 r.2)).bind fun r2 =>
  if w32 r1.1 = w32 r2.1 then
    j_L_law_1018 g x1 x2 x3 r2.2
  else
    xit (some (0, r2.2))
noncomputable def j_L_law_310 (g : GG) (x1 x2 x3 : Int) (M : MM) : Option ((Int × MM) ⊕ (Int × MM)) :=
  (sld g (x3 + 1)).bind fun v1 =>
  ck 1 x1 M <| (f_X1_hash x1 v1 M).bind fun r1 =>
  (sld g (x3 + 1)).bind fun v2 =>
  mck x2 r1.2 <| ((f_X16_hash v2 r1.2.1).map fun r => (r.1, wr r1.2 r.2)).bind fun r2 =>
  if w32 r1.1 = w32 r2.1 then
    j_L_law_1018 g x1 x2 x3 r2.2
  else
    xit (some (0, r2.2))
noncomputable def j_L_law_277 (g : GG) (x1 x2 x3 : Int) (M : MM) : Option ((Int × MM) ⊕ (Int × MM)) :=
  (sld g (x3 + 1)).bind fun v1 =>
  (sld g (x3 + 2)).bind fun v2 =>
  ck 1 x1 M <| (f_X1_key x1 v1 v2 M).bind fun v3 =>
  (sld g (x3 + 1)).bind fun v4 =>
  (sld g (x3 + 2)).bind fun v5 =>
  mck x2 M <| (f_X16_key v4 v5 M.1).bind fun v6 =>
  if w32 v3 = w32 v6 then
    j_L_law_1018 g x1 x2 x3 M
  else
    xit (some (0, M))
noncomputable def j_L_law_264 (g : GG) (x1 x2 x3 : Int) (M : MM) : Option ((Int × MM) ⊕ (Int × MM)) :=
  ck 1 x1 M <| (f_X1_peer x1 M).bind fun r1 =>
  mck x2 r1.2 <| ((f_X16_peer r1.2.1).map fun r => (r.1, wr r1.2 r.2)).bind fun r2 =>
  if w32 r1.1 = w32 r2.1 then
    j_L_law_1018 g x1 x2 x3 r2.2
  else
    xit (some (0, r2.2))
noncomputable def j_L_law_241 (g : GG) (x1 x2 x3 : Int) (M : MM) : Option ((Int × MM) ⊕ (Int × MM)) :=
  (sld g (x3 + 1)).bind fun v1 =>
  ck 1 x1 M <| (f_X1_end x1 v1 M).bind fun r1 =>
  (sld g (x3 + 1)).bind fun v2 =>
  mck x2 r1.2 <| ((f_X16_end v2 r1.2.1).map fun r => (r.1, wr r1.2 r.2)).bind fun r2 =>
  if w32 r1.1 = w32 r2.1 then
    j_L_law_1018 g x1 x2 x3 r2.2
  else
    xit (some (0, r2.2))
noncomputable def j_L_law_180 (g : GG) (x1 x2 x3 : Int) (M : MM) : Option ((Int × MM) ⊕ (Int × MM)) :=
  (sld g (x3 + 1)).bind fun v1 =>
  (sld g (x3 + 2)).bind fun v2 =>
  (sld g (x3 + 3)).bind fun v3 =>
  (sld g (x3 + 4)).bind fun v4 =>
  (sld g (x3 + 5)).bind fun v5 =>
  ck 1 x1 M <| (f_X1_feed x1 v1 v2 v3 v4 v5 M).bind fun M1 =>
  (sld g (x3 + 1)).bind fun v6 =>
  (sld g (x3 + 2)).bind fun v7 =>
  (sld g (x3 + 3)).bind fun v8 =>
  (sld g (x3 + 4)).bind fun v9 =>
  (sld g (x3 + 5)).bind fun v10 =>
  mck x2 M1 <| ((f_X16_feed v6 v7 v8 v9 v10 M1.1).map (wr M1)).bind fun M2 =>
  j_L_law_1018 g x1 x2 x3 M2
noncomputable def b_L_law_38 (g : GG) (x1 x2 x3 : Int) (M : MM) : Option ((Int × MM) ⊕ (Int × MM)) :=
  if w32 ((gL g : Int) - 6) < w32 x3 then
    xit (some (1, M))
  else
    (sld g x3).bind fun v1 =>
    swt (w32 (band v1 31)) 0 [
      (
      j_L_law_180 g x1 x2 x3 M
      ),
      (
      j_L_law_241 g x1 x2 x3 M
      ),
      (
      j_L_law_264 g x1 x2 x3 M
      ),
      (
      j_L_law_277 g x1 x2 x3 M
      ),
      (
      j_L_law_310 g x1 x2 x3 M
      ),
      (
      j_L_law_333 g x1 x2 x3 M
      ),
      (
      j_L_law_366 g x1 x2 x3 M
      ),
      (
      j_L_law_399 g x1 x2 x3 M
      ),
      (
      j_L_law_422 g x1 x2 x3 M
      ),
      (
      j_L_law_455 g x1 x2 x3 M
      ),
      (
      j_L_law_478 g x1 x2 x3 M
      ),
      (
      j_L_law_501 g x1 x2 x3 M
      ),
      (
      j_L_law_524 g x1 x2 x3 M
      ),
      (
      j_L_law_547 g x1 x2 x3 M
      ),
      (
      j_L_law_570 g x1 x2 x3 M
      ),
      (
      j_L_law_593 g x1 x2 x3 M
      ),
      (
      j_L_law_626 g x1 x2 x3 M
      ),
      (
      j_L_law_649 g x1 x2 x3 M
      ),
      (
      j_L_law_672 g x1 x2 x3 M
      ),
      (
      j_L_law_705 g x1 x2 x3 M
      ),
      (
      j_L_law_748 g x1 x2 x3 M
      ),
      (
      j_L_law_781 g x1 x2 x3 M
      ),
      (
      j_L_law_850 g x1 x2 x3 M
      ),
      (
      j_L_law_893 g x1 x2 x3 M
      ),
      (
      j_L_law_926 g x1 x2 x3 M
      ),
      (
      j_L_law_949 g x1 x2 x3 M
      ),
      (
      j_L_law_962 g x1 x2 x3 M
      ),
      (
      j_L_law_985 g x1 x2 x3 M
      )
      ] (
      j_L_law_1018 g x1 x2 x3 M
      )
noncomputable def l_L_law_38 (g : GG) (x1 x2 x3 : Int) (M : MM) : Option (Int × MM) := lpN (fun s : Int × MM => b_L_law_38 g x1 x2 s.1 s.2) FU (x3, M)
noncomputable def f_L_law (g : GG) (M : MM) : Option (Int × MM) :=
  (nob 1 13 53 M).bind fun r1 =>
  (f_X0_cell g 0 r1.2).bind fun v1 =>
  (f_X0_cell g 1 r1.2).bind fun v2 =>
  nn r1.1 <| (f_X1_init r1.1 v1 v2 r1.2).bind fun M1 =>
  (nob 16 145 54 M1).bind fun r2 =>
  (f_X0_cell g 0 r2.2).bind fun v3 =>
  (f_X0_cell g 1 r2.2).bind fun v4 =>
  nn r2.1 <| (f_X16_init r2.1 v3 v4 r2.2).bind fun M2 =>
  l_L_law_38 g r1.1 r2.1 2 M2
theorem s_L_law_1018 {g : GG} {d : Nat} (hD : 221 ≤ d) {x1 x2 x3 : Int} {M : MM} {o : AV × MM} {P : ((Int × MM) ⊕ (Int × MM)) → Prop} (c0 : ∀ s : Int × MM, P (.inl s) → Sem g d YL_law 38 [(1, (-2)), (1, x1), (1, x2), (0, s.1)] [] s.2 o) (r0 : ∀ r : Int × MM, P (.inr r) → o = ((0, r.1), r.2)) {z : (Int × MM) ⊕ (Int × MM)} (h : j_L_law_1018 g x1 x2 x3 M = some z) (hz : P z) : Sem g d YL_law 1018 [(1, (-2)), (1, x1), (1, x2), (0, x3)] [] M o := by
  delta j_L_law_1018 at h
  refine S_iinc dL_law_1018 rfl rfl rfl ?_
  change Sem g d YL_law 1021 [(1, (-2)), (1, x1), (1, x2), (0, x3 + 6)] [] M o
  refine S_goto (tgt := 38) dL_law_1021 rfl ?_
  exact c0 (x3 + 6, M) (some_P (P := fun r => P r) h hz)
theorem s_L_law_985 {g : GG} {d : Nat} (hD : 221 ≤ d) {x1 x2 x3 : Int} {M : MM} {o : AV × MM} {P : ((Int × MM) ⊕ (Int × MM)) → Prop} (c0 : ∀ s : Int × MM, P (.inl s) → Sem g d YL_law 38 [(1, (-2)), (1, x1), (1, x2), (0, s.1)] [] s.2 o) (r0 : ∀ r : Int × MM, P (.inr r) → o = ((0, r.1), r.2)) {z : (Int × MM) ⊕ (Int × MM)} (h : j_L_law_985 g x1 x2 x3 M = some z) (hz : P z) : Sem g d YL_law 985 [(1, (-2)), (1, x1), (1, x2), (0, x3)] [] M o := by
  delta j_L_law_985 at h
  refine S_aload_n (i := 1) dL_law_985 rfl rfl ?_
  refine S_aload_n (i := 0) dL_law_986 rfl rfl ?_
  refine S_iload_n (i := 3) dL_law_987 rfl rfl ?_
  refine S_iconst dL_law_988 rfl ?_
  refine S_iadd dL_law_989 ?_
  refine P_sld dL_law_990 h (fun v1 h => ?_)
  refine S_aload_n (i := 0) dL_law_991 rfl rfl ?_
  refine S_iload_n (i := 3) dL_law_992 rfl rfl ?_
  refine S_iconst dL_law_993 rfl ?_
  refine S_iadd dL_law_994 ?_
  refine P_sld dL_law_995 h (fun v2 h => ?_)
  refine P_invVe 0 [(0, v1), (0, v2)] [] CVX1_truth MLX0_138 dL_law_996 rfl rfl rfl rfl rfl (by omega) h (fun r h => F_X1_truth (by omega) h) (fun r1 h => ?_)
  refine S_aload_n (i := 2) dL_law_999 rfl rfl ?_
  refine S_aload_n (i := 0) dL_law_1000 rfl rfl ?_
  refine S_iload_n (i := 3) dL_law_1001 rfl rfl ?_
  refine S_iconst dL_law_1002 rfl ?_
  refine S_iadd dL_law_1003 ?_
  refine P_sld dL_law_1004 h (fun v3 h => ?_)
  refine S_aload_n (i := 0) dL_law_1005 rfl rfl ?_
  refine S_iload_n (i := 3) dL_law_1006 rfl rfl ?_
  refine S_iconst dL_law_1007 rfl ?_
  refine S_iadd dL_law_1008 ?_
  refine P_sld dL_law_1009 h (fun v4 h => ?_)
  refine P_lawe 0 [(0, v3), (0, v4)] [(0, r1.1)] CVX16_truth MLX0_141 dL_law_1010 rfl rfl rfl rfl rfl (by omega) h (fun hM r h => F_X16_truth (by omega) hM h) (fun r2 h => ?_)
  refine P_icmp_eq (tgt := 1018) dL_law_1013 rfl h (fun h => ?_) (fun h => ?_)
  · exact s_L_law_1018 hD c0 r0 h hz
  · obtain ⟨z0, h, hz⟩ := xit_some' (P := fun r => P r) h hz
    refine S_iconst dL_law_1016 rfl ?_
    obtain rfl := r0 _ (some_P (P := fun r => P (.inr r)) h hz)
    exact P_ret dL_law_1017 rfl (Or.inr ⟨rfl, Or.inl rfl⟩)
theorem s_L_law_962 {g : GG} {d : Nat} (hD : 221 ≤ d) {x1 x2 x3 : Int} {M : MM} {o : AV × MM} {P : ((Int × MM) ⊕ (Int × MM)) → Prop} (c0 : ∀ s : Int × MM, P (.inl s) → Sem g d YL_law 38 [(1, (-2)), (1, x1), (1, x2), (0, s.1)] [] s.2 o) (r0 : ∀ r : Int × MM, P (.inr r) → o = ((0, r.1), r.2)) {z : (Int × MM) ⊕ (Int × MM)} (h : j_L_law_962 g x1 x2 x3 M = some z) (hz : P z) : Sem g d YL_law 962 [(1, (-2)), (1, x1), (1, x2), (0, x3)] [] M o := by
  delta j_L_law_962 at h
  refine S_aload_n (i := 1) dL_law_962 rfl rfl ?_
  refine S_aload_n (i := 0) dL_law_963 rfl rfl ?_
  refine S_iload_n (i := 3) dL_law_964 rfl rfl ?_
  refine S_iconst dL_law_965 rfl ?_
  refine S_iadd dL_law_966 ?_
  refine P_sld dL_law_967 h (fun v1 h => ?_)
  refine P_invVe 0 [(0, v1)] [] CVX1_nearest MLX0_134 dL_law_968 rfl rfl rfl rfl rfl (by omega) h (fun r h => F_X1_nearest (by omega) h) (fun r1 h => ?_)
  refine S_aload_n (i := 2) dL_law_971 rfl rfl ?_
  refine S_aload_n (i := 0) dL_law_972 rfl rfl ?_
  refine S_iload_n (i := 3) dL_law_973 rfl rfl ?_
  refine S_iconst dL_law_974 rfl ?_
  refine S_iadd dL_law_975 ?_
  refine P_sld dL_law_976 h (fun v2 h => ?_)
  refine P_lawe 0 [(0, v2)] [(0, r1.1)] CVX16_nearest MLX0_137 dL_law_977 rfl rfl rfl rfl rfl (by omega) h (fun hM r h => F_X16_nearest (by omega) hM h) (fun r2 h => ?_)
  refine P_icmp_eq (tgt := 1018) dL_law_980 rfl h (fun h => ?_) (fun h => ?_)
  · exact s_L_law_1018 hD c0 r0 h hz
  · obtain ⟨z0, h, hz⟩ := xit_some' (P := fun r => P r) h hz
    refine S_iconst dL_law_983 rfl ?_
    obtain rfl := r0 _ (some_P (P := fun r => P (.inr r)) h hz)
    exact P_ret dL_law_984 rfl (Or.inr ⟨rfl, Or.inl rfl⟩)
theorem s_L_law_949 {g : GG} {d : Nat} (hD : 221 ≤ d) {x1 x2 x3 : Int} {M : MM} {o : AV × MM} {P : ((Int × MM) ⊕ (Int × MM)) → Prop} (c0 : ∀ s : Int × MM, P (.inl s) → Sem g d YL_law 38 [(1, (-2)), (1, x1), (1, x2), (0, s.1)] [] s.2 o) (r0 : ∀ r : Int × MM, P (.inr r) → o = ((0, r.1), r.2)) {z : (Int × MM) ⊕ (Int × MM)} (h : j_L_law_949 g x1 x2 x3 M = some z) (hz : P z) : Sem g d YL_law 949 [(1, (-2)), (1, x1), (1, x2), (0, x3)] [] M o := by
  delta j_L_law_949 at h
  refine S_aload_n (i := 1) dL_law_949 rfl rfl ?_
  refine P_invVp 0 [] [] CVX1_stable MLX0_129 dL_law_950 rfl rfl rfl rfl rfl (by omega) h (fun r h => F_X1_stable (by omega) h) (fun v1 h => ?_)
  refine S_aload_n (i := 2) dL_law_953 rfl rfl ?_
  refine P_lawp 0 [] [(0, v1)] CVX16_stable MLX0_133 dL_law_954 rfl rfl rfl rfl rfl (by omega) h (fun hM r h => F_X16_stable (by omega) hM h) (fun v2 h => ?_)
  refine P_icmp_eq (tgt := 1018) dL_law_957 rfl h (fun h => ?_) (fun h => ?_)
  · exact s_L_law_1018 hD c0 r0 h hz
  · obtain ⟨z0, h, hz⟩ := xit_some' (P := fun r => P r) h hz
    refine S_iconst dL_law_960 rfl ?_
    obtain rfl := r0 _ (some_P (P := fun r => P (.inr r)) h hz)
    exact P_ret dL_law_961 rfl (Or.inr ⟨rfl, Or.inl rfl⟩)
theorem s_L_law_926 {g : GG} {d : Nat} (hD : 221 ≤ d) {x1 x2 x3 : Int} {M : MM} {o : AV × MM} {P : ((Int × MM) ⊕ (Int × MM)) → Prop} (c0 : ∀ s : Int × MM, P (.inl s) → Sem g d YL_law 38 [(1, (-2)), (1, x1), (1, x2), (0, s.1)] [] s.2 o) (r0 : ∀ r : Int × MM, P (.inr r) → o = ((0, r.1), r.2)) {z : (Int × MM) ⊕ (Int × MM)} (h : j_L_law_926 g x1 x2 x3 M = some z) (hz : P z) : Sem g d YL_law 926 [(1, (-2)), (1, x1), (1, x2), (0, x3)] [] M o := by
  delta j_L_law_926 at h
  refine S_aload_n (i := 1) dL_law_926 rfl rfl ?_
  refine S_aload_n (i := 0) dL_law_927 rfl rfl ?_
  refine S_iload_n (i := 3) dL_law_928 rfl rfl ?_
  refine S_iconst dL_law_929 rfl ?_
  refine S_iadd dL_law_930 ?_
  refine P_sld dL_law_931 h (fun v1 h => ?_)
  refine P_invVp 0 [(0, v1)] [] CVX1_look MLX0_125 dL_law_932 rfl rfl rfl rfl rfl (by omega) h (fun r h => F_X1_look (by omega) h) (fun v2 h => ?_)
  refine S_aload_n (i := 2) dL_law_935 rfl rfl ?_
  refine S_aload_n (i := 0) dL_law_936 rfl rfl ?_
  refine S_iload_n (i := 3) dL_law_937 rfl rfl ?_
  refine S_iconst dL_law_938 rfl ?_
  refine S_iadd dL_law_939 ?_
  refine P_sld dL_law_940 h (fun v3 h => ?_)
  refine P_lawp 0 [(0, v3)] [(0, v2)] CVX16_look MLX0_128 dL_law_941 rfl rfl rfl rfl rfl (by omega) h (fun hM r h => F_X16_look (by omega) hM h) (fun v4 h => ?_)
  refine P_icmp_eq (tgt := 1018) dL_law_944 rfl h (fun h => ?_) (fun h => ?_)
  · exact s_L_law_1018 hD c0 r0 h hz
  · obtain ⟨z0, h, hz⟩ := xit_some' (P := fun r => P r) h hz
    refine S_iconst dL_law_947 rfl ?_
    obtain rfl := r0 _ (some_P (P := fun r => P (.inr r)) h hz)
    exact P_ret dL_law_948 rfl (Or.inr ⟨rfl, Or.inl rfl⟩)
theorem s_L_law_893 {g : GG} {d : Nat} (hD : 221 ≤ d) {x1 x2 x3 : Int} {M : MM} {o : AV × MM} {P : ((Int × MM) ⊕ (Int × MM)) → Prop} (c0 : ∀ s : Int × MM, P (.inl s) → Sem g d YL_law 38 [(1, (-2)), (1, x1), (1, x2), (0, s.1)] [] s.2 o) (r0 : ∀ r : Int × MM, P (.inr r) → o = ((0, r.1), r.2)) {z : (Int × MM) ⊕ (Int × MM)} (h : j_L_law_893 g x1 x2 x3 M = some z) (hz : P z) : Sem g d YL_law 893 [(1, (-2)), (1, x1), (1, x2), (0, x3)] [] M o := by
  delta j_L_law_893 at h
  refine S_aload_n (i := 1) dL_law_893 rfl rfl ?_
  refine S_aload_n (i := 0) dL_law_894 rfl rfl ?_
  refine S_iload_n (i := 3) dL_law_895 rfl rfl ?_
  refine S_iconst dL_law_896 rfl ?_
  refine S_iadd dL_law_897 ?_
  refine P_sld dL_law_898 h (fun v1 h => ?_)
  refine S_aload_n (i := 0) dL_law_899 rfl rfl ?_
  refine S_iload_n (i := 3) dL_law_900 rfl rfl ?_
  refine S_iconst dL_law_901 rfl ?_
  refine S_iadd dL_law_902 ?_
  refine P_sld dL_law_903 h (fun v2 h => ?_)
  refine P_invVp 0 [(0, v1), (0, v2)] [] CVX1_flight MLX0_121 dL_law_904 rfl rfl rfl rfl rfl (by omega) h (fun r h => F_X1_flight (by omega) h) (fun v3 h => ?_)
  refine S_aload_n (i := 2) dL_law_907 rfl rfl ?_
  refine S_aload_n (i := 0) dL_law_908 rfl rfl ?_
  refine S_iload_n (i := 3) dL_law_909 rfl rfl ?_
  refine S_iconst dL_law_910 rfl ?_
  refine S_iadd dL_law_911 ?_
  refine P_sld dL_law_912 h (fun v4 h => ?_)
  refine S_aload_n (i := 0) dL_law_913 rfl rfl ?_
  refine S_iload_n (i := 3) dL_law_914 rfl rfl ?_
  refine S_iconst dL_law_915 rfl ?_
  refine S_iadd dL_law_916 ?_
  refine P_sld dL_law_917 h (fun v5 h => ?_)
  refine P_lawp 0 [(0, v4), (0, v5)] [(0, v3)] CVX16_flight MLX0_124 dL_law_918 rfl rfl rfl rfl rfl (by omega) h (fun hM r h => F_X16_flight (by omega) hM h) (fun v6 h => ?_)
  refine P_icmp_eq (tgt := 1018) dL_law_921 rfl h (fun h => ?_) (fun h => ?_)
  · exact s_L_law_1018 hD c0 r0 h hz
  · obtain ⟨z0, h, hz⟩ := xit_some' (P := fun r => P r) h hz
    refine S_iconst dL_law_924 rfl ?_
    obtain rfl := r0 _ (some_P (P := fun r => P (.inr r)) h hz)
    exact P_ret dL_law_925 rfl (Or.inr ⟨rfl, Or.inl rfl⟩)
theorem s_L_law_850 {g : GG} {d : Nat} (hD : 221 ≤ d) {x1 x2 x3 : Int} {M : MM} {o : AV × MM} {P : ((Int × MM) ⊕ (Int × MM)) → Prop} (c0 : ∀ s : Int × MM, P (.inl s) → Sem g d YL_law 38 [(1, (-2)), (1, x1), (1, x2), (0, s.1)] [] s.2 o) (r0 : ∀ r : Int × MM, P (.inr r) → o = ((0, r.1), r.2)) {z : (Int × MM) ⊕ (Int × MM)} (h : j_L_law_850 g x1 x2 x3 M = some z) (hz : P z) : Sem g d YL_law 850 [(1, (-2)), (1, x1), (1, x2), (0, x3)] [] M o := by
  delta j_L_law_850 at h
  refine S_aload_n (i := 1) dL_law_850 rfl rfl ?_
  refine S_aload_n (i := 0) dL_law_851 rfl rfl ?_
  refine S_iload_n (i := 3) dL_law_852 rfl rfl ?_
  refine S_iconst dL_law_853 rfl ?_
  refine S_iadd dL_law_854 ?_
  refine P_sld dL_law_855 h (fun v1 h => ?_)
  refine S_aload_n (i := 0) dL_law_856 rfl rfl ?_
  refine S_iload_n (i := 3) dL_law_857 rfl rfl ?_
  refine S_iconst dL_law_858 rfl ?_
  refine S_iadd dL_law_859 ?_
  refine P_sld dL_law_860 h (fun v2 h => ?_)
  refine S_aload_n (i := 0) dL_law_861 rfl rfl ?_
  refine S_iload_n (i := 3) dL_law_862 rfl rfl ?_
  refine S_iconst dL_law_863 rfl ?_
  refine S_iadd dL_law_864 ?_
  refine P_sld dL_law_865 h (fun v3 h => ?_)
  refine P_invVp 0 [(0, v1), (0, v2), (0, v3)] [] CVX1_posting MLX0_117 dL_law_866 rfl rfl rfl rfl rfl (by omega) h (fun r h => F_X1_posting (by omega) h) (fun v4 h => ?_)
  refine S_aload_n (i := 2) dL_law_869 rfl rfl ?_
  refine S_aload_n (i := 0) dL_law_870 rfl rfl ?_
  refine S_iload_n (i := 3) dL_law_871 rfl rfl ?_
  refine S_iconst dL_law_872 rfl ?_
  refine S_iadd dL_law_873 ?_
  refine P_sld dL_law_874 h (fun v5 h => ?_)
  refine S_aload_n (i := 0) dL_law_875 rfl rfl ?_
  refine S_iload_n (i := 3) dL_law_876 rfl rfl ?_
  refine S_iconst dL_law_877 rfl ?_
  refine S_iadd dL_law_878 ?_
  refine P_sld dL_law_879 h (fun v6 h => ?_)
  refine S_aload_n (i := 0) dL_law_880 rfl rfl ?_
  refine S_iload_n (i := 3) dL_law_881 rfl rfl ?_
  refine S_iconst dL_law_882 rfl ?_
  refine S_iadd dL_law_883 ?_
  refine P_sld dL_law_884 h (fun v7 h => ?_)
  refine P_lawp 0 [(0, v5), (0, v6), (0, v7)] [(0, v4)] CVX16_posting MLX0_120 dL_law_885 rfl rfl rfl rfl rfl (by omega) h (fun hM r h => F_X16_posting (by omega) hM h) (fun v8 h => ?_)
  refine P_icmp_eq (tgt := 1018) dL_law_888 rfl h (fun h => ?_) (fun h => ?_)
  · exact s_L_law_1018 hD c0 r0 h hz
  · obtain ⟨z0, h, hz⟩ := xit_some' (P := fun r => P r) h hz
    refine S_iconst dL_law_891 rfl ?_
    obtain rfl := r0 _ (some_P (P := fun r => P (.inr r)) h hz)
    exact P_ret dL_law_892 rfl (Or.inr ⟨rfl, Or.inl rfl⟩)
theorem s_L_law_832 {g : GG} {d : Nat} (hD : 221 ≤ d) {x1 x2 x3 y0 y1 y2 y3 : Int} {M : MM} {o : AV × MM} {P : ((Int × MM) ⊕ (Int × MM)) → Prop} (c0 : ∀ s : Int × MM, P (.inl s) → Sem g d YL_law 38 [(1, (-2)), (1, x1), (1, x2), (0, s.1)] [] s.2 o) (r0 : ∀ r : Int × MM, P (.inr r) → o = ((0, r.1), r.2)) {z : (Int × MM) ⊕ (Int × MM)} (h : j_L_law_832 g x1 x2 x3 y0 y1 y2 y3 M = some z) (hz : P z) : Sem g d YL_law 832 [(1, (-2)), (1, x1), (1, x2), (0, x3)] [(0, y3), (0, y2), (1, y1), (0, y0)] M o := by
  delta j_L_law_832 at h
  refine S_aload_n (i := 0) dL_law_832 rfl rfl ?_
  refine S_iload_n (i := 3) dL_law_833 rfl rfl ?_
  refine S_iconst dL_law_834 rfl ?_
  refine S_iadd dL_law_835 ?_
  refine P_sld dL_law_836 h (fun v1 h => ?_)
  refine S_aload_n (i := 0) dL_law_837 rfl rfl ?_
  refine S_iload_n (i := 3) dL_law_838 rfl rfl ?_
  refine S_iconst dL_law_839 rfl ?_
  refine S_iadd dL_law_840 ?_
  refine P_sld dL_law_841 h (fun v2 h => ?_)
  refine P_lawp 0 [(0, y2), (0, y3), (0, v1), (0, v2)] [(0, y0)] CVX16_contact MLX0_116 dL_law_842 rfl rfl rfl rfl rfl (by omega) h (fun hM r h => F_X16_contact (by omega) hM h) (fun v3 h => ?_)
  refine P_icmp_eq (tgt := 1018) dL_law_845 rfl h (fun h => ?_) (fun h => ?_)
  · exact s_L_law_1018 hD c0 r0 h hz
  · obtain ⟨z0, h, hz⟩ := xit_some' (P := fun r => P r) h hz
    refine S_iconst dL_law_848 rfl ?_
    obtain rfl := r0 _ (some_P (P := fun r => P (.inr r)) h hz)
    exact P_ret dL_law_849 rfl (Or.inr ⟨rfl, Or.inl rfl⟩)
theorem s_L_law_800 {g : GG} {d : Nat} (hD : 221 ≤ d) {x1 x2 x3 y0 y1 y2 : Int} {M : MM} {o : AV × MM} {P : ((Int × MM) ⊕ (Int × MM)) → Prop} (c0 : ∀ s : Int × MM, P (.inl s) → Sem g d YL_law 38 [(1, (-2)), (1, x1), (1, x2), (0, s.1)] [] s.2 o) (r0 : ∀ r : Int × MM, P (.inr r) → o = ((0, r.1), r.2)) {z : (Int × MM) ⊕ (Int × MM)} (h : j_L_law_800 g x1 x2 x3 y0 y1 y2 M = some z) (hz : P z) : Sem g d YL_law 800 [(1, (-2)), (1, x1), (1, x2), (0, x3)] [(0, y2), (0, y1), (1, y0)] M o := by
  delta j_L_law_800 at h
  refine S_aload_n (i := 0) dL_law_800 rfl rfl ?_
  refine S_iload_n (i := 3) dL_law_801 rfl rfl ?_
  refine S_iconst dL_law_802 rfl ?_
  refine S_iadd dL_law_803 ?_
  refine P_sld dL_law_804 h (fun v1 h => ?_)
  refine S_aload_n (i := 0) dL_law_805 rfl rfl ?_
  refine S_iload_n (i := 3) dL_law_806 rfl rfl ?_
  refine S_iconst dL_law_807 rfl ?_
  refine S_iadd dL_law_808 ?_
  refine P_sld dL_law_809 h (fun v2 h => ?_)
  refine P_invVp 0 [(0, y1), (0, y2), (0, v1), (0, v2)] [] CVX1_contact MLX0_112 dL_law_810 rfl rfl rfl rfl rfl (by omega) h (fun r h => F_X1_contact (by omega) h) (fun v3 h => ?_)
  refine S_aload_n (i := 2) dL_law_813 rfl rfl ?_
  refine S_aload_n (i := 0) dL_law_814 rfl rfl ?_
  refine S_iload_n (i := 3) dL_law_815 rfl rfl ?_
  refine S_iconst dL_law_816 rfl ?_
  refine S_iadd dL_law_817 ?_
  refine P_sld dL_law_818 h (fun v4 h => ?_)
  refine S_aload_n (i := 0) dL_law_819 rfl rfl ?_
  refine S_iload_n (i := 3) dL_law_820 rfl rfl ?_
  refine S_iconst dL_law_821 rfl ?_
  refine S_iadd dL_law_822 ?_
  refine P_sld dL_law_823 h (fun v5 h => ?_)
  refine P_if_eq (tgt := 831) dL_law_824 rfl h (fun h => ?_) (fun h => ?_)
  · refine S_iconst dL_law_831 rfl ?_
    exact s_L_law_832 hD c0 r0 h hz
  · refine S_iconst dL_law_827 rfl ?_
    refine S_goto (tgt := 832) dL_law_828 rfl ?_
    exact s_L_law_832 hD c0 r0 h hz
theorem s_L_law_781 {g : GG} {d : Nat} (hD : 221 ≤ d) {x1 x2 x3 : Int} {M : MM} {o : AV × MM} {P : ((Int × MM) ⊕ (Int × MM)) → Prop} (c0 : ∀ s : Int × MM, P (.inl s) → Sem g d YL_law 38 [(1, (-2)), (1, x1), (1, x2), (0, s.1)] [] s.2 o) (r0 : ∀ r : Int × MM, P (.inr r) → o = ((0, r.1), r.2)) {z : (Int × MM) ⊕ (Int × MM)} (h : j_L_law_781 g x1 x2 x3 M = some z) (hz : P z) : Sem g d YL_law 781 [(1, (-2)), (1, x1), (1, x2), (0, x3)] [] M o := by
  delta j_L_law_781 at h
  refine S_aload_n (i := 1) dL_law_781 rfl rfl ?_
  refine S_aload_n (i := 0) dL_law_782 rfl rfl ?_
  refine S_iload_n (i := 3) dL_law_783 rfl rfl ?_
  refine S_iconst dL_law_784 rfl ?_
  refine S_iadd dL_law_785 ?_
  refine P_sld dL_law_786 h (fun v1 h => ?_)
  refine S_aload_n (i := 0) dL_law_787 rfl rfl ?_
  refine S_iload_n (i := 3) dL_law_788 rfl rfl ?_
  refine S_iconst dL_law_789 rfl ?_
  refine S_iadd dL_law_790 ?_
  refine P_sld dL_law_791 h (fun v2 h => ?_)
  refine P_if_eq (tgt := 799) dL_law_792 rfl h (fun h => ?_) (fun h => ?_)
  · refine S_iconst dL_law_799 rfl ?_
    exact s_L_law_800 hD c0 r0 h hz
  · refine S_iconst dL_law_795 rfl ?_
    refine S_goto (tgt := 800) dL_law_796 rfl ?_
    exact s_L_law_800 hD c0 r0 h hz
theorem s_L_law_748 {g : GG} {d : Nat} (hD : 221 ≤ d) {x1 x2 x3 : Int} {M : MM} {o : AV × MM} {P : ((Int × MM) ⊕ (Int × MM)) → Prop} (c0 : ∀ s : Int × MM, P (.inl s) → Sem g d YL_law 38 [(1, (-2)), (1, x1), (1, x2), (0, s.1)] [] s.2 o) (r0 : ∀ r : Int × MM, P (.inr r) → o = ((0, r.1), r.2)) {z : (Int × MM) ⊕ (Int × MM)} (h : j_L_law_748 g x1 x2 x3 M = some z) (hz : P z) : Sem g d YL_law 748 [(1, (-2)), (1, x1), (1, x2), (0, x3)] [] M o := by
  delta j_L_law_748 at h
  refine S_aload_n (i := 1) dL_law_748 rfl rfl ?_
  refine S_aload_n (i := 0) dL_law_749 rfl rfl ?_
  refine S_iload_n (i := 3) dL_law_750 rfl rfl ?_
  refine S_iconst dL_law_751 rfl ?_
  refine S_iadd dL_law_752 ?_
  refine P_sld dL_law_753 h (fun v1 h => ?_)
  refine S_aload_n (i := 0) dL_law_754 rfl rfl ?_
  refine S_iload_n (i := 3) dL_law_755 rfl rfl ?_
  refine S_iconst dL_law_756 rfl ?_
  refine S_iadd dL_law_757 ?_
  refine P_sld dL_law_758 h (fun v2 h => ?_)
  refine P_invVp 0 [(0, v1), (0, v2)] [] CVX1_count MLX0_108 dL_law_759 rfl rfl rfl rfl rfl (by omega) h (fun r h => F_X1_count (by omega) h) (fun v3 h => ?_)
  refine S_aload_n (i := 2) dL_law_762 rfl rfl ?_
  refine S_aload_n (i := 0) dL_law_763 rfl rfl ?_
  refine S_iload_n (i := 3) dL_law_764 rfl rfl ?_
  refine S_iconst dL_law_765 rfl ?_
  refine S_iadd dL_law_766 ?_
  refine P_sld dL_law_767 h (fun v4 h => ?_)
  refine S_aload_n (i := 0) dL_law_768 rfl rfl ?_
  refine S_iload_n (i := 3) dL_law_769 rfl rfl ?_
  refine S_iconst dL_law_770 rfl ?_
  refine S_iadd dL_law_771 ?_
  refine P_sld dL_law_772 h (fun v5 h => ?_)
  refine P_lawp 0 [(0, v4), (0, v5)] [(0, v3)] CVX16_count MLX0_111 dL_law_773 rfl rfl rfl rfl rfl (by omega) h (fun hM r h => F_X16_count (by omega) hM h) (fun v6 h => ?_)
  refine P_icmp_eq (tgt := 1018) dL_law_776 rfl h (fun h => ?_) (fun h => ?_)
  · exact s_L_law_1018 hD c0 r0 h hz
  · obtain ⟨z0, h, hz⟩ := xit_some' (P := fun r => P r) h hz
    refine S_iconst dL_law_779 rfl ?_
    obtain rfl := r0 _ (some_P (P := fun r => P (.inr r)) h hz)
    exact P_ret dL_law_780 rfl (Or.inr ⟨rfl, Or.inl rfl⟩)
theorem s_L_law_705 {g : GG} {d : Nat} (hD : 221 ≤ d) {x1 x2 x3 : Int} {M : MM} {o : AV × MM} {P : ((Int × MM) ⊕ (Int × MM)) → Prop} (c0 : ∀ s : Int × MM, P (.inl s) → Sem g d YL_law 38 [(1, (-2)), (1, x1), (1, x2), (0, s.1)] [] s.2 o) (r0 : ∀ r : Int × MM, P (.inr r) → o = ((0, r.1), r.2)) {z : (Int × MM) ⊕ (Int × MM)} (h : j_L_law_705 g x1 x2 x3 M = some z) (hz : P z) : Sem g d YL_law 705 [(1, (-2)), (1, x1), (1, x2), (0, x3)] [] M o := by
  delta j_L_law_705 at h
  refine S_aload_n (i := 1) dL_law_705 rfl rfl ?_
  refine S_aload_n (i := 0) dL_law_706 rfl rfl ?_
  refine S_iload_n (i := 3) dL_law_707 rfl rfl ?_
  refine S_iconst dL_law_708 rfl ?_
  refine S_iadd dL_law_709 ?_
  refine P_sld dL_law_710 h (fun v1 h => ?_)
  refine S_aload_n (i := 0) dL_law_711 rfl rfl ?_
  refine S_iload_n (i := 3) dL_law_712 rfl rfl ?_
  refine S_iconst dL_law_713 rfl ?_
  refine S_iadd dL_law_714 ?_
  refine P_sld dL_law_715 h (fun v2 h => ?_)
  refine S_aload_n (i := 0) dL_law_716 rfl rfl ?_
  refine S_iload_n (i := 3) dL_law_717 rfl rfl ?_
  refine S_iconst dL_law_718 rfl ?_
  refine S_iadd dL_law_719 ?_
  refine P_sld dL_law_720 h (fun v3 h => ?_)
  refine P_invVp 0 [(0, v1), (0, v2), (0, v3)] [] CVX1_found MLX0_103 dL_law_721 rfl rfl rfl rfl rfl (by omega) h (fun r h => F_X1_found (by omega) h) (fun v4 h => ?_)
  refine S_aload_n (i := 2) dL_law_724 rfl rfl ?_
  refine S_aload_n (i := 0) dL_law_725 rfl rfl ?_
  refine S_iload_n (i := 3) dL_law_726 rfl rfl ?_
  refine S_iconst dL_law_727 rfl ?_
  refine S_iadd dL_law_728 ?_
  refine P_sld dL_law_729 h (fun v5 h => ?_)
  refine S_aload_n (i := 0) dL_law_730 rfl rfl ?_
  refine S_iload_n (i := 3) dL_law_731 rfl rfl ?_
  refine S_iconst dL_law_732 rfl ?_
  refine S_iadd dL_law_733 ?_
  refine P_sld dL_law_734 h (fun v6 h => ?_)
  refine S_aload_n (i := 0) dL_law_735 rfl rfl ?_
  refine S_iload_n (i := 3) dL_law_736 rfl rfl ?_
  refine S_iconst dL_law_737 rfl ?_
  refine S_iadd dL_law_738 ?_
  refine P_sld dL_law_739 h (fun v7 h => ?_)
  refine P_lawp 0 [(0, v5), (0, v6), (0, v7)] [(0, v4)] CVX16_found MLX0_107 dL_law_740 rfl rfl rfl rfl rfl (by omega) h (fun hM r h => F_X16_found (by omega) hM h) (fun v8 h => ?_)
  refine P_icmp_eq (tgt := 1018) dL_law_743 rfl h (fun h => ?_) (fun h => ?_)
  · exact s_L_law_1018 hD c0 r0 h hz
  · obtain ⟨z0, h, hz⟩ := xit_some' (P := fun r => P r) h hz
    refine S_iconst dL_law_746 rfl ?_
    obtain rfl := r0 _ (some_P (P := fun r => P (.inr r)) h hz)
    exact P_ret dL_law_747 rfl (Or.inr ⟨rfl, Or.inl rfl⟩)
theorem s_L_law_672 {g : GG} {d : Nat} (hD : 221 ≤ d) {x1 x2 x3 : Int} {M : MM} {o : AV × MM} {P : ((Int × MM) ⊕ (Int × MM)) → Prop} (c0 : ∀ s : Int × MM, P (.inl s) → Sem g d YL_law 38 [(1, (-2)), (1, x1), (1, x2), (0, s.1)] [] s.2 o) (r0 : ∀ r : Int × MM, P (.inr r) → o = ((0, r.1), r.2)) {z : (Int × MM) ⊕ (Int × MM)} (h : j_L_law_672 g x1 x2 x3 M = some z) (hz : P z) : Sem g d YL_law 672 [(1, (-2)), (1, x1), (1, x2), (0, x3)] [] M o := by
  delta j_L_law_672 at h
  refine S_aload_n (i := 1) dL_law_672 rfl rfl ?_
  refine S_aload_n (i := 0) dL_law_673 rfl rfl ?_
  refine S_iload_n (i := 3) dL_law_674 rfl rfl ?_
  refine S_iconst dL_law_675 rfl ?_
  refine S_iadd dL_law_676 ?_
  refine P_sld dL_law_677 h (fun v1 h => ?_)
  refine S_aload_n (i := 0) dL_law_678 rfl rfl ?_
  refine S_iload_n (i := 3) dL_law_679 rfl rfl ?_
  refine S_iconst dL_law_680 rfl ?_
  refine S_iadd dL_law_681 ?_
  refine P_sld dL_law_682 h (fun v2 h => ?_)
  refine P_invVp 0 [(0, v1), (0, v2)] [] CVX1_task MLX0_99 dL_law_683 rfl rfl rfl rfl rfl (by omega) h (fun r h => F_X1_task (by omega) h) (fun v3 h => ?_)
  refine S_aload_n (i := 2) dL_law_686 rfl rfl ?_
  refine S_aload_n (i := 0) dL_law_687 rfl rfl ?_
  refine S_iload_n (i := 3) dL_law_688 rfl rfl ?_
  refine S_iconst dL_law_689 rfl ?_
  refine S_iadd dL_law_690 ?_
  refine P_sld dL_law_691 h (fun v4 h => ?_)
  refine S_aload_n (i := 0) dL_law_692 rfl rfl ?_
  refine S_iload_n (i := 3) dL_law_693 rfl rfl ?_
  refine S_iconst dL_law_694 rfl ?_
  refine S_iadd dL_law_695 ?_
  refine P_sld dL_law_696 h (fun v5 h => ?_)
  refine P_lawp 0 [(0, v4), (0, v5)] [(0, v3)] CVX16_task MLX0_102 dL_law_697 rfl rfl rfl rfl rfl (by omega) h (fun hM r h => F_X16_task (by omega) hM h) (fun v6 h => ?_)
  refine P_icmp_eq (tgt := 1018) dL_law_700 rfl h (fun h => ?_) (fun h => ?_)
  · exact s_L_law_1018 hD c0 r0 h hz
  · obtain ⟨z0, h, hz⟩ := xit_some' (P := fun r => P r) h hz
    refine S_iconst dL_law_703 rfl ?_
    obtain rfl := r0 _ (some_P (P := fun r => P (.inr r)) h hz)
    exact P_ret dL_law_704 rfl (Or.inr ⟨rfl, Or.inl rfl⟩)
theorem s_L_law_649 {g : GG} {d : Nat} (hD : 221 ≤ d) {x1 x2 x3 : Int} {M : MM} {o : AV × MM} {P : ((Int × MM) ⊕ (Int × MM)) → Prop} (c0 : ∀ s : Int × MM, P (.inl s) → Sem g d YL_law 38 [(1, (-2)), (1, x1), (1, x2), (0, s.1)] [] s.2 o) (r0 : ∀ r : Int × MM, P (.inr r) → o = ((0, r.1), r.2)) {z : (Int × MM) ⊕ (Int × MM)} (h : j_L_law_649 g x1 x2 x3 M = some z) (hz : P z) : Sem g d YL_law 649 [(1, (-2)), (1, x1), (1, x2), (0, x3)] [] M o := by
  delta j_L_law_649 at h
  refine S_aload_n (i := 1) dL_law_649 rfl rfl ?_
  refine S_aload_n (i := 0) dL_law_650 rfl rfl ?_
  refine S_iload_n (i := 3) dL_law_651 rfl rfl ?_
  refine S_iconst dL_law_652 rfl ?_
  refine S_iadd dL_law_653 ?_
  refine P_sld dL_law_654 h (fun v1 h => ?_)
  refine P_invVe 0 [(0, v1)] [] CVX1_rest MLX0_95 dL_law_655 rfl rfl rfl rfl rfl (by omega) h (fun r h => F_X1_rest (by omega) h) (fun r1 h => ?_)
  refine S_aload_n (i := 2) dL_law_658 rfl rfl ?_
  refine S_aload_n (i := 0) dL_law_659 rfl rfl ?_
  refine S_iload_n (i := 3) dL_law_660 rfl rfl ?_
  refine S_iconst dL_law_661 rfl ?_
  refine S_iadd dL_law_662 ?_
  refine P_sld dL_law_663 h (fun v2 h => ?_)
  refine P_lawe 0 [(0, v2)] [(0, r1.1)] CVX16_rest MLX0_98 dL_law_664 rfl rfl rfl rfl rfl (by omega) h (fun hM r h => F_X16_rest (by omega) hM h) (fun r2 h => ?_)
  refine P_icmp_eq (tgt := 1018) dL_law_667 rfl h (fun h => ?_) (fun h => ?_)
  · exact s_L_law_1018 hD c0 r0 h hz
  · obtain ⟨z0, h, hz⟩ := xit_some' (P := fun r => P r) h hz
    refine S_iconst dL_law_670 rfl ?_
    obtain rfl := r0 _ (some_P (P := fun r => P (.inr r)) h hz)
    exact P_ret dL_law_671 rfl (Or.inr ⟨rfl, Or.inl rfl⟩)
theorem s_L_law_626 {g : GG} {d : Nat} (hD : 221 ≤ d) {x1 x2 x3 : Int} {M : MM} {o : AV × MM} {P : ((Int × MM) ⊕ (Int × MM)) → Prop} (c0 : ∀ s : Int × MM, P (.inl s) → Sem g d YL_law 38 [(1, (-2)), (1, x1), (1, x2), (0, s.1)] [] s.2 o) (r0 : ∀ r : Int × MM, P (.inr r) → o = ((0, r.1), r.2)) {z : (Int × MM) ⊕ (Int × MM)} (h : j_L_law_626 g x1 x2 x3 M = some z) (hz : P z) : Sem g d YL_law 626 [(1, (-2)), (1, x1), (1, x2), (0, x3)] [] M o := by
  delta j_L_law_626 at h
  refine S_aload_n (i := 1) dL_law_626 rfl rfl ?_
  refine S_aload_n (i := 0) dL_law_627 rfl rfl ?_
  refine S_iload_n (i := 3) dL_law_628 rfl rfl ?_
  refine S_iconst dL_law_629 rfl ?_
  refine S_iadd dL_law_630 ?_
  refine P_sld dL_law_631 h (fun v1 h => ?_)
  refine P_invVe 0 [(0, v1)] [] CVX1_run MLX0_91 dL_law_632 rfl rfl rfl rfl rfl (by omega) h (fun r h => F_X1_run (by omega) h) (fun r1 h => ?_)
  refine S_aload_n (i := 2) dL_law_635 rfl rfl ?_
  refine S_aload_n (i := 0) dL_law_636 rfl rfl ?_
  refine S_iload_n (i := 3) dL_law_637 rfl rfl ?_
  refine S_iconst dL_law_638 rfl ?_
  refine S_iadd dL_law_639 ?_
  refine P_sld dL_law_640 h (fun v2 h => ?_)
  refine P_lawe 0 [(0, v2)] [(0, r1.1)] CVX16_run MLX0_94 dL_law_641 rfl rfl rfl rfl rfl (by omega) h (fun hM r h => F_X16_run (by omega) hM h) (fun r2 h => ?_)
  refine P_icmp_eq (tgt := 1018) dL_law_644 rfl h (fun h => ?_) (fun h => ?_)
  · exact s_L_law_1018 hD c0 r0 h hz
  · obtain ⟨z0, h, hz⟩ := xit_some' (P := fun r => P r) h hz
    refine S_iconst dL_law_647 rfl ?_
    obtain rfl := r0 _ (some_P (P := fun r => P (.inr r)) h hz)
    exact P_ret dL_law_648 rfl (Or.inr ⟨rfl, Or.inl rfl⟩)
theorem s_L_law_593 {g : GG} {d : Nat} (hD : 221 ≤ d) {x1 x2 x3 : Int} {M : MM} {o : AV × MM} {P : ((Int × MM) ⊕ (Int × MM)) → Prop} (c0 : ∀ s : Int × MM, P (.inl s) → Sem g d YL_law 38 [(1, (-2)), (1, x1), (1, x2), (0, s.1)] [] s.2 o) (r0 : ∀ r : Int × MM, P (.inr r) → o = ((0, r.1), r.2)) {z : (Int × MM) ⊕ (Int × MM)} (h : j_L_law_593 g x1 x2 x3 M = some z) (hz : P z) : Sem g d YL_law 593 [(1, (-2)), (1, x1), (1, x2), (0, x3)] [] M o := by
  delta j_L_law_593 at h
  refine S_aload_n (i := 1) dL_law_593 rfl rfl ?_
  refine S_aload_n (i := 0) dL_law_594 rfl rfl ?_
  refine S_iload_n (i := 3) dL_law_595 rfl rfl ?_
  refine S_iconst dL_law_596 rfl ?_
  refine S_iadd dL_law_597 ?_
  refine P_sld dL_law_598 h (fun v1 h => ?_)
  refine S_aload_n (i := 0) dL_law_599 rfl rfl ?_
  refine S_iload_n (i := 3) dL_law_600 rfl rfl ?_
  refine S_iconst dL_law_601 rfl ?_
  refine S_iadd dL_law_602 ?_
  refine P_sld dL_law_603 h (fun v2 h => ?_)
  refine P_invVe 0 [(0, v1), (0, v2)] [] CVX1_forge MLX0_87 dL_law_604 rfl rfl rfl rfl rfl (by omega) h (fun r h => F_X1_forge (by omega) h) (fun r1 h => ?_)
  refine S_aload_n (i := 2) dL_law_607 rfl rfl ?_
  refine S_aload_n (i := 0) dL_law_608 rfl rfl ?_
  refine S_iload_n (i := 3) dL_law_609 rfl rfl ?_
  refine S_iconst dL_law_610 rfl ?_
  refine S_iadd dL_law_611 ?_
  refine P_sld dL_law_612 h (fun v3 h => ?_)
  refine S_aload_n (i := 0) dL_law_613 rfl rfl ?_
  refine S_iload_n (i := 3) dL_law_614 rfl rfl ?_
  refine S_iconst dL_law_615 rfl ?_
  refine S_iadd dL_law_616 ?_
  refine P_sld dL_law_617 h (fun v4 h => ?_)
  refine P_lawe 0 [(0, v3), (0, v4)] [(0, r1.1)] CVX16_forge MLX0_90 dL_law_618 rfl rfl rfl rfl rfl (by omega) h (fun hM r h => F_X16_forge (by omega) hM h) (fun r2 h => ?_)
  refine P_icmp_eq (tgt := 1018) dL_law_621 rfl h (fun h => ?_) (fun h => ?_)
  · exact s_L_law_1018 hD c0 r0 h hz
  · obtain ⟨z0, h, hz⟩ := xit_some' (P := fun r => P r) h hz
    refine S_iconst dL_law_624 rfl ?_
    obtain rfl := r0 _ (some_P (P := fun r => P (.inr r)) h hz)
    exact P_ret dL_law_625 rfl (Or.inr ⟨rfl, Or.inl rfl⟩)
theorem s_L_law_570 {g : GG} {d : Nat} (hD : 221 ≤ d) {x1 x2 x3 : Int} {M : MM} {o : AV × MM} {P : ((Int × MM) ⊕ (Int × MM)) → Prop} (c0 : ∀ s : Int × MM, P (.inl s) → Sem g d YL_law 38 [(1, (-2)), (1, x1), (1, x2), (0, s.1)] [] s.2 o) (r0 : ∀ r : Int × MM, P (.inr r) → o = ((0, r.1), r.2)) {z : (Int × MM) ⊕ (Int × MM)} (h : j_L_law_570 g x1 x2 x3 M = some z) (hz : P z) : Sem g d YL_law 570 [(1, (-2)), (1, x1), (1, x2), (0, x3)] [] M o := by
  delta j_L_law_570 at h
  refine S_aload_n (i := 1) dL_law_570 rfl rfl ?_
  refine S_aload_n (i := 0) dL_law_571 rfl rfl ?_
  refine S_iload_n (i := 3) dL_law_572 rfl rfl ?_
  refine S_iconst dL_law_573 rfl ?_
  refine S_iadd dL_law_574 ?_
  refine P_sld dL_law_575 h (fun v1 h => ?_)
  refine P_invVe 0 [(0, v1)] [] CVX1_query MLX0_83 dL_law_576 rfl rfl rfl rfl rfl (by omega) h (fun r h => F_X1_query (by omega) h) (fun r1 h => ?_)
  refine S_aload_n (i := 2) dL_law_579 rfl rfl ?_
  refine S_aload_n (i := 0) dL_law_580 rfl rfl ?_
  refine S_iload_n (i := 3) dL_law_581 rfl rfl ?_
  refine S_iconst dL_law_582 rfl ?_
  refine S_iadd dL_law_583 ?_
  refine P_sld dL_law_584 h (fun v2 h => ?_)
  refine P_lawe 0 [(0, v2)] [(0, r1.1)] CVX16_query MLX0_86 dL_law_585 rfl rfl rfl rfl rfl (by omega) h (fun hM r h => F_X16_query (by omega) hM h) (fun r2 h => ?_)
  refine P_icmp_eq (tgt := 1018) dL_law_588 rfl h (fun h => ?_) (fun h => ?_)
  · exact s_L_law_1018 hD c0 r0 h hz
  · obtain ⟨z0, h, hz⟩ := xit_some' (P := fun r => P r) h hz
    refine S_iconst dL_law_591 rfl ?_
    obtain rfl := r0 _ (some_P (P := fun r => P (.inr r)) h hz)
    exact P_ret dL_law_592 rfl (Or.inr ⟨rfl, Or.inl rfl⟩)
theorem s_L_law_547 {g : GG} {d : Nat} (hD : 221 ≤ d) {x1 x2 x3 : Int} {M : MM} {o : AV × MM} {P : ((Int × MM) ⊕ (Int × MM)) → Prop} (c0 : ∀ s : Int × MM, P (.inl s) → Sem g d YL_law 38 [(1, (-2)), (1, x1), (1, x2), (0, s.1)] [] s.2 o) (r0 : ∀ r : Int × MM, P (.inr r) → o = ((0, r.1), r.2)) {z : (Int × MM) ⊕ (Int × MM)} (h : j_L_law_547 g x1 x2 x3 M = some z) (hz : P z) : Sem g d YL_law 547 [(1, (-2)), (1, x1), (1, x2), (0, x3)] [] M o := by
  delta j_L_law_547 at h
  refine S_aload_n (i := 1) dL_law_547 rfl rfl ?_
  refine S_aload_n (i := 0) dL_law_548 rfl rfl ?_
  refine S_iload_n (i := 3) dL_law_549 rfl rfl ?_
  refine S_iconst dL_law_550 rfl ?_
  refine S_iadd dL_law_551 ?_
  refine P_sld dL_law_552 h (fun v1 h => ?_)
  refine P_invVe 0 [(0, v1)] [] CVX1_lookup MLX0_79 dL_law_553 rfl rfl rfl rfl rfl (by omega) h (fun r h => F_X1_lookup (by omega) h) (fun r1 h => ?_)
  refine S_aload_n (i := 2) dL_law_556 rfl rfl ?_
  refine S_aload_n (i := 0) dL_law_557 rfl rfl ?_
  refine S_iload_n (i := 3) dL_law_558 rfl rfl ?_
  refine S_iconst dL_law_559 rfl ?_
  refine S_iadd dL_law_560 ?_
  refine P_sld dL_law_561 h (fun v2 h => ?_)
  refine P_lawe 0 [(0, v2)] [(0, r1.1)] CVX16_lookup MLX0_82 dL_law_562 rfl rfl rfl rfl rfl (by omega) h (fun hM r h => F_X16_lookup (by omega) hM h) (fun r2 h => ?_)
  refine P_icmp_eq (tgt := 1018) dL_law_565 rfl h (fun h => ?_) (fun h => ?_)
  · exact s_L_law_1018 hD c0 r0 h hz
  · obtain ⟨z0, h, hz⟩ := xit_some' (P := fun r => P r) h hz
    refine S_iconst dL_law_568 rfl ?_
    obtain rfl := r0 _ (some_P (P := fun r => P (.inr r)) h hz)
    exact P_ret dL_law_569 rfl (Or.inr ⟨rfl, Or.inl rfl⟩)
theorem s_L_law_524 {g : GG} {d : Nat} (hD : 221 ≤ d) {x1 x2 x3 : Int} {M : MM} {o : AV × MM} {P : ((Int × MM) ⊕ (Int × MM)) → Prop} (c0 : ∀ s : Int × MM, P (.inl s) → Sem g d YL_law 38 [(1, (-2)), (1, x1), (1, x2), (0, s.1)] [] s.2 o) (r0 : ∀ r : Int × MM, P (.inr r) → o = ((0, r.1), r.2)) {z : (Int × MM) ⊕ (Int × MM)} (h : j_L_law_524 g x1 x2 x3 M = some z) (hz : P z) : Sem g d YL_law 524 [(1, (-2)), (1, x1), (1, x2), (0, x3)] [] M o := by
  delta j_L_law_524 at h
  refine S_aload_n (i := 1) dL_law_524 rfl rfl ?_
  refine S_aload_n (i := 0) dL_law_525 rfl rfl ?_
  refine S_iload_n (i := 3) dL_law_526 rfl rfl ?_
  refine S_iconst dL_law_527 rfl ?_
  refine S_iadd dL_law_528 ?_
  refine P_sld dL_law_529 h (fun v1 h => ?_)
  refine P_invVe 0 [(0, v1)] [] CVX1_publish MLX0_75 dL_law_530 rfl rfl rfl rfl rfl (by omega) h (fun r h => F_X1_publish (by omega) h) (fun r1 h => ?_)
  refine S_aload_n (i := 2) dL_law_533 rfl rfl ?_
  refine S_aload_n (i := 0) dL_law_534 rfl rfl ?_
  refine S_iload_n (i := 3) dL_law_535 rfl rfl ?_
  refine S_iconst dL_law_536 rfl ?_
  refine S_iadd dL_law_537 ?_
  refine P_sld dL_law_538 h (fun v2 h => ?_)
  refine P_lawe 0 [(0, v2)] [(0, r1.1)] CVX16_publish MLX0_78 dL_law_539 rfl rfl rfl rfl rfl (by omega) h (fun hM r h => F_X16_publish (by omega) hM h) (fun r2 h => ?_)
  refine P_icmp_eq (tgt := 1018) dL_law_542 rfl h (fun h => ?_) (fun h => ?_)
  · exact s_L_law_1018 hD c0 r0 h hz
  · obtain ⟨z0, h, hz⟩ := xit_some' (P := fun r => P r) h hz
    refine S_iconst dL_law_545 rfl ?_
    obtain rfl := r0 _ (some_P (P := fun r => P (.inr r)) h hz)
    exact P_ret dL_law_546 rfl (Or.inr ⟨rfl, Or.inl rfl⟩)
theorem s_L_law_501 {g : GG} {d : Nat} (hD : 221 ≤ d) {x1 x2 x3 : Int} {M : MM} {o : AV × MM} {P : ((Int × MM) ⊕ (Int × MM)) → Prop} (c0 : ∀ s : Int × MM, P (.inl s) → Sem g d YL_law 38 [(1, (-2)), (1, x1), (1, x2), (0, s.1)] [] s.2 o) (r0 : ∀ r : Int × MM, P (.inr r) → o = ((0, r.1), r.2)) {z : (Int × MM) ⊕ (Int × MM)} (h : j_L_law_501 g x1 x2 x3 M = some z) (hz : P z) : Sem g d YL_law 501 [(1, (-2)), (1, x1), (1, x2), (0, x3)] [] M o := by
  delta j_L_law_501 at h
  refine S_aload_n (i := 1) dL_law_501 rfl rfl ?_
  refine S_aload_n (i := 0) dL_law_502 rfl rfl ?_
  refine S_iload_n (i := 3) dL_law_503 rfl rfl ?_
  refine S_iconst dL_law_504 rfl ?_
  refine S_iadd dL_law_505 ?_
  refine P_sld dL_law_506 h (fun v1 h => ?_)
  refine P_invVe 0 [(0, v1)] [] CVX1_document MLX0_71 dL_law_507 rfl rfl rfl rfl rfl (by omega) h (fun r h => F_X1_document (by omega) h) (fun r1 h => ?_)
  refine S_aload_n (i := 2) dL_law_510 rfl rfl ?_
  refine S_aload_n (i := 0) dL_law_511 rfl rfl ?_
  refine S_iload_n (i := 3) dL_law_512 rfl rfl ?_
  refine S_iconst dL_law_513 rfl ?_
  refine S_iadd dL_law_514 ?_
  refine P_sld dL_law_515 h (fun v2 h => ?_)
  refine P_lawe 0 [(0, v2)] [(0, r1.1)] CVX16_document MLX0_74 dL_law_516 rfl rfl rfl rfl rfl (by omega) h (fun hM r h => F_X16_document (by omega) hM h) (fun r2 h => ?_)
  refine P_icmp_eq (tgt := 1018) dL_law_519 rfl h (fun h => ?_) (fun h => ?_)
  · exact s_L_law_1018 hD c0 r0 h hz
  · obtain ⟨z0, h, hz⟩ := xit_some' (P := fun r => P r) h hz
    refine S_iconst dL_law_522 rfl ?_
    obtain rfl := r0 _ (some_P (P := fun r => P (.inr r)) h hz)
    exact P_ret dL_law_523 rfl (Or.inr ⟨rfl, Or.inl rfl⟩)
theorem s_L_law_478 {g : GG} {d : Nat} (hD : 221 ≤ d) {x1 x2 x3 : Int} {M : MM} {o : AV × MM} {P : ((Int × MM) ⊕ (Int × MM)) → Prop} (c0 : ∀ s : Int × MM, P (.inl s) → Sem g d YL_law 38 [(1, (-2)), (1, x1), (1, x2), (0, s.1)] [] s.2 o) (r0 : ∀ r : Int × MM, P (.inr r) → o = ((0, r.1), r.2)) {z : (Int × MM) ⊕ (Int × MM)} (h : j_L_law_478 g x1 x2 x3 M = some z) (hz : P z) : Sem g d YL_law 478 [(1, (-2)), (1, x1), (1, x2), (0, x3)] [] M o := by
  delta j_L_law_478 at h
  refine S_aload_n (i := 1) dL_law_478 rfl rfl ?_
  refine S_aload_n (i := 0) dL_law_479 rfl rfl ?_
  refine S_iload_n (i := 3) dL_law_480 rfl rfl ?_
  refine S_iconst dL_law_481 rfl ?_
  refine S_iadd dL_law_482 ?_
  refine P_sld dL_law_483 h (fun v1 h => ?_)
  refine P_invVe 0 [(0, v1)] [] CVX1_leave MLX0_67 dL_law_484 rfl rfl rfl rfl rfl (by omega) h (fun r h => F_X1_leave (by omega) h) (fun r1 h => ?_)
  refine S_aload_n (i := 2) dL_law_487 rfl rfl ?_
  refine S_aload_n (i := 0) dL_law_488 rfl rfl ?_
  refine S_iload_n (i := 3) dL_law_489 rfl rfl ?_
  refine S_iconst dL_law_490 rfl ?_
  refine S_iadd dL_law_491 ?_
  refine P_sld dL_law_492 h (fun v2 h => ?_)
  refine P_lawe 0 [(0, v2)] [(0, r1.1)] CVX16_leave MLX0_70 dL_law_493 rfl rfl rfl rfl rfl (by omega) h (fun hM r h => F_X16_leave (by omega) hM h) (fun r2 h => ?_)
  refine P_icmp_eq (tgt := 1018) dL_law_496 rfl h (fun h => ?_) (fun h => ?_)
  · exact s_L_law_1018 hD c0 r0 h hz
  · obtain ⟨z0, h, hz⟩ := xit_some' (P := fun r => P r) h hz
    refine S_iconst dL_law_499 rfl ?_
    obtain rfl := r0 _ (some_P (P := fun r => P (.inr r)) h hz)
    exact P_ret dL_law_500 rfl (Or.inr ⟨rfl, Or.inl rfl⟩)
theorem s_L_law_455 {g : GG} {d : Nat} (hD : 221 ≤ d) {x1 x2 x3 : Int} {M : MM} {o : AV × MM} {P : ((Int × MM) ⊕ (Int × MM)) → Prop} (c0 : ∀ s : Int × MM, P (.inl s) → Sem g d YL_law 38 [(1, (-2)), (1, x1), (1, x2), (0, s.1)] [] s.2 o) (r0 : ∀ r : Int × MM, P (.inr r) → o = ((0, r.1), r.2)) {z : (Int × MM) ⊕ (Int × MM)} (h : j_L_law_455 g x1 x2 x3 M = some z) (hz : P z) : Sem g d YL_law 455 [(1, (-2)), (1, x1), (1, x2), (0, x3)] [] M o := by
  delta j_L_law_455 at h
  refine S_aload_n (i := 1) dL_law_455 rfl rfl ?_
  refine S_aload_n (i := 0) dL_law_456 rfl rfl ?_
  refine S_iload_n (i := 3) dL_law_457 rfl rfl ?_
  refine S_iconst dL_law_458 rfl ?_
  refine S_iadd dL_law_459 ?_
  refine P_sld dL_law_460 h (fun v1 h => ?_)
  refine P_invVe 0 [(0, v1)] [] CVX1_crash MLX0_63 dL_law_461 rfl rfl rfl rfl rfl (by omega) h (fun r h => F_X1_crash (by omega) h) (fun r1 h => ?_)
  refine S_aload_n (i := 2) dL_law_464 rfl rfl ?_
  refine S_aload_n (i := 0) dL_law_465 rfl rfl ?_
  refine S_iload_n (i := 3) dL_law_466 rfl rfl ?_
  refine S_iconst dL_law_467 rfl ?_
  refine S_iadd dL_law_468 ?_
  refine P_sld dL_law_469 h (fun v2 h => ?_)
  refine P_lawe 0 [(0, v2)] [(0, r1.1)] CVX16_crash MLX0_66 dL_law_470 rfl rfl rfl rfl rfl (by omega) h (fun hM r h => F_X16_crash (by omega) hM h) (fun r2 h => ?_)
  refine P_icmp_eq (tgt := 1018) dL_law_473 rfl h (fun h => ?_) (fun h => ?_)
  · exact s_L_law_1018 hD c0 r0 h hz
  · obtain ⟨z0, h, hz⟩ := xit_some' (P := fun r => P r) h hz
    refine S_iconst dL_law_476 rfl ?_
    obtain rfl := r0 _ (some_P (P := fun r => P (.inr r)) h hz)
    exact P_ret dL_law_477 rfl (Or.inr ⟨rfl, Or.inl rfl⟩)
theorem s_L_law_422 {g : GG} {d : Nat} (hD : 221 ≤ d) {x1 x2 x3 : Int} {M : MM} {o : AV × MM} {P : ((Int × MM) ⊕ (Int × MM)) → Prop} (c0 : ∀ s : Int × MM, P (.inl s) → Sem g d YL_law 38 [(1, (-2)), (1, x1), (1, x2), (0, s.1)] [] s.2 o) (r0 : ∀ r : Int × MM, P (.inr r) → o = ((0, r.1), r.2)) {z : (Int × MM) ⊕ (Int × MM)} (h : j_L_law_422 g x1 x2 x3 M = some z) (hz : P z) : Sem g d YL_law 422 [(1, (-2)), (1, x1), (1, x2), (0, x3)] [] M o := by
  delta j_L_law_422 at h
  refine S_aload_n (i := 1) dL_law_422 rfl rfl ?_
  refine S_aload_n (i := 0) dL_law_423 rfl rfl ?_
  refine S_iload_n (i := 3) dL_law_424 rfl rfl ?_
  refine S_iconst dL_law_425 rfl ?_
  refine S_iadd dL_law_426 ?_
  refine P_sld dL_law_427 h (fun v1 h => ?_)
  refine S_aload_n (i := 0) dL_law_428 rfl rfl ?_
  refine S_iload_n (i := 3) dL_law_429 rfl rfl ?_
  refine S_iconst dL_law_430 rfl ?_
  refine S_iadd dL_law_431 ?_
  refine P_sld dL_law_432 h (fun v2 h => ?_)
  refine P_invVe 0 [(0, v1), (0, v2)] [] CVX1_join MLX0_59 dL_law_433 rfl rfl rfl rfl rfl (by omega) h (fun r h => F_X1_join (by omega) h) (fun r1 h => ?_)
  refine S_aload_n (i := 2) dL_law_436 rfl rfl ?_
  refine S_aload_n (i := 0) dL_law_437 rfl rfl ?_
  refine S_iload_n (i := 3) dL_law_438 rfl rfl ?_
  refine S_iconst dL_law_439 rfl ?_
  refine S_iadd dL_law_440 ?_
  refine P_sld dL_law_441 h (fun v3 h => ?_)
  refine S_aload_n (i := 0) dL_law_442 rfl rfl ?_
  refine S_iload_n (i := 3) dL_law_443 rfl rfl ?_
  refine S_iconst dL_law_444 rfl ?_
  refine S_iadd dL_law_445 ?_
  refine P_sld dL_law_446 h (fun v4 h => ?_)
  refine P_lawe 0 [(0, v3), (0, v4)] [(0, r1.1)] CVX16_join MLX0_62 dL_law_447 rfl rfl rfl rfl rfl (by omega) h (fun hM r h => F_X16_join (by omega) hM h) (fun r2 h => ?_)
  refine P_icmp_eq (tgt := 1018) dL_law_450 rfl h (fun h => ?_) (fun h => ?_)
  · exact s_L_law_1018 hD c0 r0 h hz
  · obtain ⟨z0, h, hz⟩ := xit_some' (P := fun r => P r) h hz
    refine S_iconst dL_law_453 rfl ?_
    obtain rfl := r0 _ (some_P (P := fun r => P (.inr r)) h hz)
    exact P_ret dL_law_454 rfl (Or.inr ⟨rfl, Or.inl rfl⟩)
theorem s_L_law_399 {g : GG} {d : Nat} (hD : 221 ≤ d) {x1 x2 x3 : Int} {M : MM} {o : AV × MM} {P : ((Int × MM) ⊕ (Int × MM)) → Prop} (c0 : ∀ s : Int × MM, P (.inl s) → Sem g d YL_law 38 [(1, (-2)), (1, x1), (1, x2), (0, s.1)] [] s.2 o) (r0 : ∀ r : Int × MM, P (.inr r) → o = ((0, r.1), r.2)) {z : (Int × MM) ⊕ (Int × MM)} (h : j_L_law_399 g x1 x2 x3 M = some z) (hz : P z) : Sem g d YL_law 399 [(1, (-2)), (1, x1), (1, x2), (0, x3)] [] M o := by
  delta j_L_law_399 at h
  refine S_aload_n (i := 1) dL_law_399 rfl rfl ?_
  refine S_aload_n (i := 0) dL_law_400 rfl rfl ?_
  refine S_iload_n (i := 3) dL_law_401 rfl rfl ?_
  refine S_iconst dL_law_402 rfl ?_
  refine S_iadd dL_law_403 ?_
  refine P_sld dL_law_404 h (fun v1 h => ?_)
  refine P_invVe 0 [(0, v1)] [] CVX1_start MLX0_54 dL_law_405 rfl rfl rfl rfl rfl (by omega) h (fun r h => F_X1_start (by omega) h) (fun r1 h => ?_)
  refine S_aload_n (i := 2) dL_law_408 rfl rfl ?_
  refine S_aload_n (i := 0) dL_law_409 rfl rfl ?_
  refine S_iload_n (i := 3) dL_law_410 rfl rfl ?_
  refine S_iconst dL_law_411 rfl ?_
  refine S_iadd dL_law_412 ?_
  refine P_sld dL_law_413 h (fun v2 h => ?_)
  refine P_lawe 0 [(0, v2)] [(0, r1.1)] CVX16_start MLX0_58 dL_law_414 rfl rfl rfl rfl rfl (by omega) h (fun hM r h => F_X16_start (by omega) hM h) (fun r2 h => ?_)
  refine P_icmp_eq (tgt := 1018) dL_law_417 rfl h (fun h => ?_) (fun h => ?_)
  · exact s_L_law_1018 hD c0 r0 h hz
  · obtain ⟨z0, h, hz⟩ := xit_some' (P := fun r => P r) h hz
    refine S_iconst dL_law_420 rfl ?_
    obtain rfl := r0 _ (some_P (P := fun r => P (.inr r)) h hz)
    exact P_ret dL_law_421 rfl (Or.inr ⟨rfl, Or.inl rfl⟩)
theorem s_L_law_366 {g : GG} {d : Nat} (hD : 221 ≤ d) {x1 x2 x3 : Int} {M : MM} {o : AV × MM} {P : ((Int × MM) ⊕ (Int × MM)) → Prop} (c0 : ∀ s : Int × MM, P (.inl s) → Sem g d YL_law 38 [(1, (-2)), (1, x1), (1, x2), (0, s.1)] [] s.2 o) (r0 : ∀ r : Int × MM, P (.inr r) → o = ((0, r.1), r.2)) {z : (Int × MM) ⊕ (Int × MM)} (h : j_L_law_366 g x1 x2 x3 M = some z) (hz : P z) : Sem g d YL_law 366 [(1, (-2)), (1, x1), (1, x2), (0, x3)] [] M o := by
  delta j_L_law_366 at h
  refine S_aload_n (i := 1) dL_law_366 rfl rfl ?_
  refine S_aload_n (i := 0) dL_law_367 rfl rfl ?_
  refine S_iload_n (i := 3) dL_law_368 rfl rfl ?_
  refine S_iconst dL_law_369 rfl ?_
  refine S_iadd dL_law_370 ?_
  refine P_sld dL_law_371 h (fun v1 h => ?_)
  refine S_aload_n (i := 0) dL_law_372 rfl rfl ?_
  refine S_iload_n (i := 3) dL_law_373 rfl rfl ?_
  refine S_iconst dL_law_374 rfl ?_
  refine S_iadd dL_law_375 ?_
  refine P_sld dL_law_376 h (fun v2 h => ?_)
  refine P_invVe 0 [(0, v1), (0, v2)] [] CVX1_side MLX0_50 dL_law_377 rfl rfl rfl rfl rfl (by omega) h (fun r h => F_X1_side (by omega) h) (fun r1 h => ?_)
  refine S_aload_n (i := 2) dL_law_380 rfl rfl ?_
  refine S_aload_n (i := 0) dL_law_381 rfl rfl ?_
  refine S_iload_n (i := 3) dL_law_382 rfl rfl ?_
  refine S_iconst dL_law_383 rfl ?_
  refine S_iadd dL_law_384 ?_
  refine P_sld dL_law_385 h (fun v3 h => ?_)
  refine S_aload_n (i := 0) dL_law_386 rfl rfl ?_
  refine S_iload_n (i := 3) dL_law_387 rfl rfl ?_
  refine S_iconst dL_law_388 rfl ?_
  refine S_iadd dL_law_389 ?_
  refine P_sld dL_law_390 h (fun v4 h => ?_)
  refine P_lawe 0 [(0, v3), (0, v4)] [(0, r1.1)] CVX16_side MLX0_53 dL_law_391 rfl rfl rfl rfl rfl (by omega) h (fun hM r h => F_X16_side (by omega) hM h) (fun r2 h => ?_)
  refine P_icmp_eq (tgt := 1018) dL_law_394 rfl h (fun h => ?_) (fun h => ?_)
  · exact s_L_law_1018 hD c0 r0 h hz
  · obtain ⟨z0, h, hz⟩ := xit_some' (P := fun r => P r) h hz
    refine S_iconst dL_law_397 rfl ?_
    obtain rfl := r0 _ (some_P (P := fun r => P (.inr r)) h hz)
    exact P_ret dL_law_398 rfl (Or.inr ⟨rfl, Or.inl rfl⟩)
theorem s_L_law_333 {g : GG} {d : Nat} (hD : 221 ≤ d) {x1 x2 x3 : Int} {M : MM} {o : AV × MM} {P : ((Int × MM) ⊕ (Int × MM)) → Prop} (c0 : ∀ s : Int × MM, P (.inl s) → Sem g d YL_law 38 [(1, (-2)), (1, x1), (1, x2), (0, s.1)] [] s.2 o) (r0 : ∀ r : Int × MM, P (.inr r) → o = ((0, r.1), r.2)) {z : (Int × MM) ⊕ (Int × MM)} (h : j_L_law_333 g x1 x2 x3 M = some z) (hz : P z) : Sem g d YL_law 333 [(1, (-2)), (1, x1), (1, x2), (0, x3)] [] M o := by
  delta j_L_law_333 at h
  refine S_aload_n (i := 1) dL_law_333 rfl rfl ?_
  refine S_aload_n (i := 0) dL_law_334 rfl rfl ?_
  refine S_iload_n (i := 3) dL_law_335 rfl rfl ?_
  refine S_iconst dL_law_336 rfl ?_
  refine S_iadd dL_law_337 ?_
  refine P_sld dL_law_338 h (fun v1 h => ?_)
  refine S_aload_n (i := 0) dL_law_339 rfl rfl ?_
  refine S_iload_n (i := 3) dL_law_340 rfl rfl ?_
  refine S_iconst dL_law_341 rfl ?_
  refine S_iadd dL_law_342 ?_
  refine P_sld dL_law_343 h (fun v2 h => ?_)
  refine P_invVe 0 [(0, v1), (0, v2)] [] CVX1_set MLX0_45 dL_law_344 rfl rfl rfl rfl rfl (by omega) h (fun r h => F_X1_set (by omega) h) (fun r1 h => ?_)
  refine S_aload_n (i := 2) dL_law_347 rfl rfl ?_
  refine S_aload_n (i := 0) dL_law_348 rfl rfl ?_
  refine S_iload_n (i := 3) dL_law_349 rfl rfl ?_
  refine S_iconst dL_law_350 rfl ?_
  refine S_iadd dL_law_351 ?_
  refine P_sld dL_law_352 h (fun v3 h => ?_)
  refine S_aload_n (i := 0) dL_law_353 rfl rfl ?_
  refine S_iload_n (i := 3) dL_law_354 rfl rfl ?_
  refine S_iconst dL_law_355 rfl ?_
  refine S_iadd dL_law_356 ?_
  refine P_sld dL_law_357 h (fun v4 h => ?_)
  refine P_lawe 0 [(0, v3), (0, v4)] [(0, r1.1)] CVX16_set MLX0_49 dL_law_358 rfl rfl rfl rfl rfl (by omega) h (fun hM r h => F_X16_set (by omega) hM h) (fun r2 h => ?_)
  refine P_icmp_eq (tgt := 1018) dL_law_361 rfl h (fun h => ?_) (fun h => ?_)
  · exact s_L_law_1018 hD c0 r0 h hz
  · obtain ⟨z0, h, hz⟩ := xit_some' (P := fun r => P r) h hz
    refine S_iconst dL_law_364 rfl ?_
    obtain rfl := r0 _ (some_P (P := fun r => P (.inr r)) h hz)
    exact P_ret dL_law_365 rfl (Or.inr ⟨rfl, Or.inl rfl⟩)
theorem s_L_law_310 {g : GG} {d : Nat} (hD : 221 ≤ d) {x1 x2 x3 : Int} {M : MM} {o : AV × MM} {P : ((Int × MM) ⊕ (Int × MM)) → Prop} (c0 : ∀ s : Int × MM, P (.inl s) → Sem g d YL_law 38 [(1, (-2)), (1, x1), (1, x2), (0, s.1)] [] s.2 o) (r0 : ∀ r : Int × MM, P (.inr r) → o = ((0, r.1), r.2)) {z : (Int × MM) ⊕ (Int × MM)} (h : j_L_law_310 g x1 x2 x3 M = some z) (hz : P z) : Sem g d YL_law 310 [(1, (-2)), (1, x1), (1, x2), (0, x3)] [] M o := by
  delta j_L_law_310 at h
  refine S_aload_n (i := 1) dL_law_310 rfl rfl ?_
  refine S_aload_n (i := 0) dL_law_311 rfl rfl ?_
  refine S_iload_n (i := 3) dL_law_312 rfl rfl ?_
  refine S_iconst dL_law_313 rfl ?_
  refine S_iadd dL_law_314 ?_
  refine P_sld dL_law_315 h (fun v1 h => ?_)
  refine P_invVe 0 [(0, v1)] [] CVX1_hash MLX0_41 dL_law_316 rfl rfl rfl rfl rfl (by omega) h (fun r h => F_X1_hash (by omega) h) (fun r1 h => ?_)
  refine S_aload_n (i := 2) dL_law_319 rfl rfl ?_
  refine S_aload_n (i := 0) dL_law_320 rfl rfl ?_
  refine S_iload_n (i := 3) dL_law_321 rfl rfl ?_
  refine S_iconst dL_law_322 rfl ?_
  refine S_iadd dL_law_323 ?_
  refine P_sld dL_law_324 h (fun v2 h => ?_)
  refine P_lawe 0 [(0, v2)] [(0, r1.1)] CVX16_hash MLX0_44 dL_law_325 rfl rfl rfl rfl rfl (by omega) h (fun hM r h => F_X16_hash (by omega) hM h) (fun r2 h => ?_)
  refine P_icmp_eq (tgt := 1018) dL_law_328 rfl h (fun h => ?_) (fun h => ?_)
  · exact s_L_law_1018 hD c0 r0 h hz
  · obtain ⟨z0, h, hz⟩ := xit_some' (P := fun r => P r) h hz
    refine S_iconst dL_law_331 rfl ?_
    obtain rfl := r0 _ (some_P (P := fun r => P (.inr r)) h hz)
    exact P_ret dL_law_332 rfl (Or.inr ⟨rfl, Or.inl rfl⟩)
theorem s_L_law_277 {g : GG} {d : Nat} (hD : 221 ≤ d) {x1 x2 x3 : Int} {M : MM} {o : AV × MM} {P : ((Int × MM) ⊕ (Int × MM)) → Prop} (c0 : ∀ s : Int × MM, P (.inl s) → Sem g d YL_law 38 [(1, (-2)), (1, x1), (1, x2), (0, s.1)] [] s.2 o) (r0 : ∀ r : Int × MM, P (.inr r) → o = ((0, r.1), r.2)) {z : (Int × MM) ⊕ (Int × MM)} (h : j_L_law_277 g x1 x2 x3 M = some z) (hz : P z) : Sem g d YL_law 277 [(1, (-2)), (1, x1), (1, x2), (0, x3)] [] M o := by
  delta j_L_law_277 at h
  refine S_aload_n (i := 1) dL_law_277 rfl rfl ?_
  refine S_aload_n (i := 0) dL_law_278 rfl rfl ?_
  refine S_iload_n (i := 3) dL_law_279 rfl rfl ?_
  refine S_iconst dL_law_280 rfl ?_
  refine S_iadd dL_law_281 ?_
  refine P_sld dL_law_282 h (fun v1 h => ?_)
  refine S_aload_n (i := 0) dL_law_283 rfl rfl ?_
  refine S_iload_n (i := 3) dL_law_284 rfl rfl ?_
  refine S_iconst dL_law_285 rfl ?_
  refine S_iadd dL_law_286 ?_
  refine P_sld dL_law_287 h (fun v2 h => ?_)
  refine P_invVp 0 [(0, v1), (0, v2)] [] CVX1_key MLX0_36 dL_law_288 rfl rfl rfl rfl rfl (by omega) h (fun r h => F_X1_key (by omega) h) (fun v3 h => ?_)
  refine S_aload_n (i := 2) dL_law_291 rfl rfl ?_
  refine S_aload_n (i := 0) dL_law_292 rfl rfl ?_
  refine S_iload_n (i := 3) dL_law_293 rfl rfl ?_
  refine S_iconst dL_law_294 rfl ?_
  refine S_iadd dL_law_295 ?_
  refine P_sld dL_law_296 h (fun v4 h => ?_)
  refine S_aload_n (i := 0) dL_law_297 rfl rfl ?_
  refine S_iload_n (i := 3) dL_law_298 rfl rfl ?_
  refine S_iconst dL_law_299 rfl ?_
  refine S_iadd dL_law_300 ?_
  refine P_sld dL_law_301 h (fun v5 h => ?_)
  refine P_lawp 0 [(0, v4), (0, v5)] [(0, v3)] CVX16_key MLX0_40 dL_law_302 rfl rfl rfl rfl rfl (by omega) h (fun hM r h => F_X16_key (by omega) hM h) (fun v6 h => ?_)
  refine P_icmp_eq (tgt := 1018) dL_law_305 rfl h (fun h => ?_) (fun h => ?_)
  · exact s_L_law_1018 hD c0 r0 h hz
  · obtain ⟨z0, h, hz⟩ := xit_some' (P := fun r => P r) h hz
    refine S_iconst dL_law_308 rfl ?_
    obtain rfl := r0 _ (some_P (P := fun r => P (.inr r)) h hz)
    exact P_ret dL_law_309 rfl (Or.inr ⟨rfl, Or.inl rfl⟩)
theorem s_L_law_264 {g : GG} {d : Nat} (hD : 221 ≤ d) {x1 x2 x3 : Int} {M : MM} {o : AV × MM} {P : ((Int × MM) ⊕ (Int × MM)) → Prop} (c0 : ∀ s : Int × MM, P (.inl s) → Sem g d YL_law 38 [(1, (-2)), (1, x1), (1, x2), (0, s.1)] [] s.2 o) (r0 : ∀ r : Int × MM, P (.inr r) → o = ((0, r.1), r.2)) {z : (Int × MM) ⊕ (Int × MM)} (h : j_L_law_264 g x1 x2 x3 M = some z) (hz : P z) : Sem g d YL_law 264 [(1, (-2)), (1, x1), (1, x2), (0, x3)] [] M o := by
  delta j_L_law_264 at h
  refine S_aload_n (i := 1) dL_law_264 rfl rfl ?_
  refine P_invVe 0 [] [] CVX1_peer MLX0_31 dL_law_265 rfl rfl rfl rfl rfl (by omega) h (fun r h => F_X1_peer (by omega) h) (fun r1 h => ?_)
  refine S_aload_n (i := 2) dL_law_268 rfl rfl ?_
  refine P_lawe 0 [] [(0, r1.1)] CVX16_peer MLX0_35 dL_law_269 rfl rfl rfl rfl rfl (by omega) h (fun hM r h => F_X16_peer (by omega) hM h) (fun r2 h => ?_)
  refine P_icmp_eq (tgt := 1018) dL_law_272 rfl h (fun h => ?_) (fun h => ?_)
  · exact s_L_law_1018 hD c0 r0 h hz
  · obtain ⟨z0, h, hz⟩ := xit_some' (P := fun r => P r) h hz
    refine S_iconst dL_law_275 rfl ?_
    obtain rfl := r0 _ (some_P (P := fun r => P (.inr r)) h hz)
    exact P_ret dL_law_276 rfl (Or.inr ⟨rfl, Or.inl rfl⟩)
theorem s_L_law_241 {g : GG} {d : Nat} (hD : 221 ≤ d) {x1 x2 x3 : Int} {M : MM} {o : AV × MM} {P : ((Int × MM) ⊕ (Int × MM)) → Prop} (c0 : ∀ s : Int × MM, P (.inl s) → Sem g d YL_law 38 [(1, (-2)), (1, x1), (1, x2), (0, s.1)] [] s.2 o) (r0 : ∀ r : Int × MM, P (.inr r) → o = ((0, r.1), r.2)) {z : (Int × MM) ⊕ (Int × MM)} (h : j_L_law_241 g x1 x2 x3 M = some z) (hz : P z) : Sem g d YL_law 241 [(1, (-2)), (1, x1), (1, x2), (0, x3)] [] M o := by
  delta j_L_law_241 at h
  refine S_aload_n (i := 1) dL_law_241 rfl rfl ?_
  refine S_aload_n (i := 0) dL_law_242 rfl rfl ?_
  refine S_iload_n (i := 3) dL_law_243 rfl rfl ?_
  refine S_iconst dL_law_244 rfl ?_
  refine S_iadd dL_law_245 ?_
  refine P_sld dL_law_246 h (fun v1 h => ?_)
  refine P_invVe 0 [(0, v1)] [] CVX1_end MLX0_26 dL_law_247 rfl rfl rfl rfl rfl (by omega) h (fun r h => F_X1_end (by omega) h) (fun r1 h => ?_)
  refine S_aload_n (i := 2) dL_law_250 rfl rfl ?_
  refine S_aload_n (i := 0) dL_law_251 rfl rfl ?_
  refine S_iload_n (i := 3) dL_law_252 rfl rfl ?_
  refine S_iconst dL_law_253 rfl ?_
  refine S_iadd dL_law_254 ?_
  refine P_sld dL_law_255 h (fun v2 h => ?_)
  refine P_lawe 0 [(0, v2)] [(0, r1.1)] CVX16_end MLX0_30 dL_law_256 rfl rfl rfl rfl rfl (by omega) h (fun hM r h => F_X16_end (by omega) hM h) (fun r2 h => ?_)
  refine P_icmp_eq (tgt := 1018) dL_law_259 rfl h (fun h => ?_) (fun h => ?_)
  · exact s_L_law_1018 hD c0 r0 h hz
  · obtain ⟨z0, h, hz⟩ := xit_some' (P := fun r => P r) h hz
    refine S_iconst dL_law_262 rfl ?_
    obtain rfl := r0 _ (some_P (P := fun r => P (.inr r)) h hz)
    exact P_ret dL_law_263 rfl (Or.inr ⟨rfl, Or.inl rfl⟩)
theorem s_L_law_180 {g : GG} {d : Nat} (hD : 221 ≤ d) {x1 x2 x3 : Int} {M : MM} {o : AV × MM} {P : ((Int × MM) ⊕ (Int × MM)) → Prop} (c0 : ∀ s : Int × MM, P (.inl s) → Sem g d YL_law 38 [(1, (-2)), (1, x1), (1, x2), (0, s.1)] [] s.2 o) (r0 : ∀ r : Int × MM, P (.inr r) → o = ((0, r.1), r.2)) {z : (Int × MM) ⊕ (Int × MM)} (h : j_L_law_180 g x1 x2 x3 M = some z) (hz : P z) : Sem g d YL_law 180 [(1, (-2)), (1, x1), (1, x2), (0, x3)] [] M o := by
  delta j_L_law_180 at h
  refine S_aload_n (i := 1) dL_law_180 rfl rfl ?_
  refine S_aload_n (i := 0) dL_law_181 rfl rfl ?_
  refine S_iload_n (i := 3) dL_law_182 rfl rfl ?_
  refine S_iconst dL_law_183 rfl ?_
  refine S_iadd dL_law_184 ?_
  refine P_sld dL_law_185 h (fun v1 h => ?_)
  refine S_aload_n (i := 0) dL_law_186 rfl rfl ?_
  refine S_iload_n (i := 3) dL_law_187 rfl rfl ?_
  refine S_iconst dL_law_188 rfl ?_
  refine S_iadd dL_law_189 ?_
  refine P_sld dL_law_190 h (fun v2 h => ?_)
  refine S_aload_n (i := 0) dL_law_191 rfl rfl ?_
  refine S_iload_n (i := 3) dL_law_192 rfl rfl ?_
  refine S_iconst dL_law_193 rfl ?_
  refine S_iadd dL_law_194 ?_
  refine P_sld dL_law_195 h (fun v3 h => ?_)
  refine S_aload_n (i := 0) dL_law_196 rfl rfl ?_
  refine S_iload_n (i := 3) dL_law_197 rfl rfl ?_
  refine S_iconst dL_law_198 rfl ?_
  refine S_iadd dL_law_199 ?_
  refine P_sld dL_law_200 h (fun v4 h => ?_)
  refine S_aload_n (i := 0) dL_law_201 rfl rfl ?_
  refine S_iload_n (i := 3) dL_law_202 rfl rfl ?_
  refine S_iconst dL_law_203 rfl ?_
  refine S_iadd dL_law_204 ?_
  refine P_sld dL_law_205 h (fun v5 h => ?_)
  refine P_invVm' [(0, v1), (0, v2), (0, v3), (0, v4), (0, v5)] [] CVX1_feed MLX0_21 dL_law_206 rfl rfl rfl rfl (by omega) h (fun r h => F_X1_feed (by omega) h) (fun M1 h => ?_)
  refine S_aload_n (i := 2) dL_law_209 rfl rfl ?_
  refine S_aload_n (i := 0) dL_law_210 rfl rfl ?_
  refine S_iload_n (i := 3) dL_law_211 rfl rfl ?_
  refine S_iconst dL_law_212 rfl ?_
  refine S_iadd dL_law_213 ?_
  refine P_sld dL_law_214 h (fun v6 h => ?_)
  refine S_aload_n (i := 0) dL_law_215 rfl rfl ?_
  refine S_iload_n (i := 3) dL_law_216 rfl rfl ?_
  refine S_iconst dL_law_217 rfl ?_
  refine S_iadd dL_law_218 ?_
  refine P_sld dL_law_219 h (fun v7 h => ?_)
  refine S_aload_n (i := 0) dL_law_220 rfl rfl ?_
  refine S_iload_n (i := 3) dL_law_221 rfl rfl ?_
  refine S_iconst dL_law_222 rfl ?_
  refine S_iadd dL_law_223 ?_
  refine P_sld dL_law_224 h (fun v8 h => ?_)
  refine S_aload_n (i := 0) dL_law_225 rfl rfl ?_
  refine S_iload_n (i := 3) dL_law_226 rfl rfl ?_
  refine S_iconst dL_law_227 rfl ?_
  refine S_iadd dL_law_228 ?_
  refine P_sld dL_law_229 h (fun v9 h => ?_)
  refine S_aload_n (i := 0) dL_law_230 rfl rfl ?_
  refine S_iload_n (i := 3) dL_law_231 rfl rfl ?_
  refine S_iconst dL_law_232 rfl ?_
  refine S_iadd dL_law_233 ?_
  refine P_sld dL_law_234 h (fun v10 h => ?_)
  refine P_lawm [(0, v6), (0, v7), (0, v8), (0, v9), (0, v10)] [] CVX16_feed MLX0_25 dL_law_235 rfl rfl rfl rfl (by omega) h (fun hM r h => F_X16_feed (by omega) hM h) (fun M2 h => ?_)
  refine S_goto (tgt := 1018) dL_law_238 rfl ?_
  exact s_L_law_1018 hD c0 r0 h hz
theorem s_L_law_38 {g : GG} {d : Nat} (hD : 221 ≤ d) {x1 x2 x3 : Int} {M : MM} {o : AV × MM} {P : ((Int × MM) ⊕ (Int × MM)) → Prop} (c0 : ∀ s : Int × MM, P (.inl s) → Sem g d YL_law 38 [(1, (-2)), (1, x1), (1, x2), (0, s.1)] [] s.2 o) (r0 : ∀ r : Int × MM, P (.inr r) → o = ((0, r.1), r.2)) {z : (Int × MM) ⊕ (Int × MM)} (h : b_L_law_38 g x1 x2 x3 M = some z) (hz : P z) : Sem g d YL_law 38 [(1, (-2)), (1, x1), (1, x2), (0, x3)] [] M o := by
  delta b_L_law_38 at h
  refine S_iload_n (i := 3) dL_law_38 rfl rfl ?_
  refine S_aload_n (i := 0) dL_law_39 rfl rfl ?_
  refine S_salen dL_law_40 ?_
  refine S_bipush (z := 6) dL_law_41 rfl ?_
  refine S_isub dL_law_43 ?_
  refine P_icmp_gt (tgt := 1024) dL_law_44 rfl h (fun h => ?_) (fun h => ?_)
  · obtain ⟨z0, h, hz⟩ := xit_some' (P := fun r => P r) h hz
    refine S_iconst dL_law_1024 rfl ?_
    obtain rfl := r0 _ (some_P (P := fun r => P (.inr r)) h hz)
    exact P_ret dL_law_1025 rfl (Or.inr ⟨rfl, Or.inr rfl⟩)
  · refine S_aload_n (i := 0) dL_law_47 rfl rfl ?_
    refine S_iload_n (i := 3) dL_law_48 rfl rfl ?_
    refine P_sld dL_law_49 h (fun v1 h => ?_)
    refine S_bipush (z := 31) dL_law_50 rfl ?_
    refine S_iand dL_law_52 ?_
    refine P_swt [180, 241, 264, 277, 310, 333, 366, 399, 422, 455, 478, 501, 524, 547, 570, 593, 626, 649, 672, 705, 748, 781, 850, 893, 926, 949, 962, 985] 1018 dL_law_53 rfl rfl rfl rfl h ?_ (fun h => ?_)
    · intro i X hX h t ht
      rcases i with _ | i
      · have e1 := Option.some.inj hX
        have e2 := Option.some.inj ht
        subst e1
        subst e2
        exact s_L_law_180 hD c0 r0 h hz
      rcases i with _ | i
      · have e1 := Option.some.inj hX
        have e2 := Option.some.inj ht
        subst e1
        subst e2
        exact s_L_law_241 hD c0 r0 h hz
      rcases i with _ | i
      · have e1 := Option.some.inj hX
        have e2 := Option.some.inj ht
        subst e1
        subst e2
        exact s_L_law_264 hD c0 r0 h hz
      rcases i with _ | i
      · have e1 := Option.some.inj hX
        have e2 := Option.some.inj ht
        subst e1
        subst e2
        exact s_L_law_277 hD c0 r0 h hz
      rcases i with _ | i
      · have e1 := Option.some.inj hX
        have e2 := Option.some.inj ht
        subst e1
        subst e2
        exact s_L_law_310 hD c0 r0 h hz
      rcases i with _ | i
      · have e1 := Option.some.inj hX
        have e2 := Option.some.inj ht
        subst e1
        subst e2
        exact s_L_law_333 hD c0 r0 h hz
      rcases i with _ | i
      · have e1 := Option.some.inj hX
        have e2 := Option.some.inj ht
        subst e1
        subst e2
        exact s_L_law_366 hD c0 r0 h hz
      rcases i with _ | i
      · have e1 := Option.some.inj hX
        have e2 := Option.some.inj ht
        subst e1
        subst e2
        exact s_L_law_399 hD c0 r0 h hz
      rcases i with _ | i
      · have e1 := Option.some.inj hX
        have e2 := Option.some.inj ht
        subst e1
        subst e2
        exact s_L_law_422 hD c0 r0 h hz
      rcases i with _ | i
      · have e1 := Option.some.inj hX
        have e2 := Option.some.inj ht
        subst e1
        subst e2
        exact s_L_law_455 hD c0 r0 h hz
      rcases i with _ | i
      · have e1 := Option.some.inj hX
        have e2 := Option.some.inj ht
        subst e1
        subst e2
        exact s_L_law_478 hD c0 r0 h hz
      rcases i with _ | i
      · have e1 := Option.some.inj hX
        have e2 := Option.some.inj ht
        subst e1
        subst e2
        exact s_L_law_501 hD c0 r0 h hz
      rcases i with _ | i
      · have e1 := Option.some.inj hX
        have e2 := Option.some.inj ht
        subst e1
        subst e2
        exact s_L_law_524 hD c0 r0 h hz
      rcases i with _ | i
      · have e1 := Option.some.inj hX
        have e2 := Option.some.inj ht
        subst e1
        subst e2
        exact s_L_law_547 hD c0 r0 h hz
      rcases i with _ | i
      · have e1 := Option.some.inj hX
        have e2 := Option.some.inj ht
        subst e1
        subst e2
        exact s_L_law_570 hD c0 r0 h hz
      rcases i with _ | i
      · have e1 := Option.some.inj hX
        have e2 := Option.some.inj ht
        subst e1
        subst e2
        exact s_L_law_593 hD c0 r0 h hz
      rcases i with _ | i
      · have e1 := Option.some.inj hX
        have e2 := Option.some.inj ht
        subst e1
        subst e2
        exact s_L_law_626 hD c0 r0 h hz
      rcases i with _ | i
      · have e1 := Option.some.inj hX
        have e2 := Option.some.inj ht
        subst e1
        subst e2
        exact s_L_law_649 hD c0 r0 h hz
      rcases i with _ | i
      · have e1 := Option.some.inj hX
        have e2 := Option.some.inj ht
        subst e1
        subst e2
        exact s_L_law_672 hD c0 r0 h hz
      rcases i with _ | i
      · have e1 := Option.some.inj hX
        have e2 := Option.some.inj ht
        subst e1
        subst e2
        exact s_L_law_705 hD c0 r0 h hz
      rcases i with _ | i
      · have e1 := Option.some.inj hX
        have e2 := Option.some.inj ht
        subst e1
        subst e2
        exact s_L_law_748 hD c0 r0 h hz
      rcases i with _ | i
      · have e1 := Option.some.inj hX
        have e2 := Option.some.inj ht
        subst e1
        subst e2
        exact s_L_law_781 hD c0 r0 h hz
      rcases i with _ | i
      · have e1 := Option.some.inj hX
        have e2 := Option.some.inj ht
        subst e1
        subst e2
        exact s_L_law_850 hD c0 r0 h hz
      rcases i with _ | i
      · have e1 := Option.some.inj hX
        have e2 := Option.some.inj ht
        subst e1
        subst e2
        exact s_L_law_893 hD c0 r0 h hz
      rcases i with _ | i
      · have e1 := Option.some.inj hX
        have e2 := Option.some.inj ht
        subst e1
        subst e2
        exact s_L_law_926 hD c0 r0 h hz
      rcases i with _ | i
      · have e1 := Option.some.inj hX
        have e2 := Option.some.inj ht
        subst e1
        subst e2
        exact s_L_law_949 hD c0 r0 h hz
      rcases i with _ | i
      · have e1 := Option.some.inj hX
        have e2 := Option.some.inj ht
        subst e1
        subst e2
        exact s_L_law_962 hD c0 r0 h hz
      rcases i with _ | i
      · have e1 := Option.some.inj hX
        have e2 := Option.some.inj ht
        subst e1
        subst e2
        exact s_L_law_985 hD c0 r0 h hz
      cases hX
    · exact s_L_law_1018 hD c0 r0 h hz
theorem sl_L_law_38 {g : GG} {d : Nat} (hD : 221 ≤ d) {x1 x2 x3 : Int} {M : MM} {o : AV × MM} {P : (Int × MM) → Prop} (r0 : ∀ r : Int × MM, P r → o = ((0, r.1), r.2)) {z : Int × MM} (h : l_L_law_38 g x1 x2 x3 M = some z) (hz : P z) : Sem g d YL_law 38 [(1, (-2)), (1, x1), (1, x2), (0, x3)] [] M o := by
  refine lp_sound (S := fun s : Int × MM => Sem g d YL_law 38 [(1, (-2)), (1, x1), (1, x2), (0, s.1)] [] s.2 o) (P := P) ?_ FU (x3, M) z h hz
  intro s x hx hP
  exact s_L_law_38 hD (P := Sum.elim (fun s : Int × MM => Sem g d YL_law 38 [(1, (-2)), (1, x1), (1, x2), (0, s.1)] [] s.2 o) P) (fun s h => h) (fun s h => r0 s h) hx hP
theorem s_L_law_0 {g : GG} {d : Nat} (hD : 221 ≤ d) {M : MM} {o : AV × MM} {P : (Int × MM) → Prop} (r0 : ∀ r : Int × MM, P r → o = ((0, r.1), r.2)) {z : Int × MM} (h : f_L_law g M = some z) (hz : P z) : Sem g d YL_law 0 [(1, (-2)), (9, 0), (9, 0), (9, 0)] [] M o := by
  delta f_L_law at h
  refine P_nob NLX0_7 rfl dL_law_0 h (fun r1 h => ?_)
  refine S_dup dL_law_3 (Nat.le_of_ble_eq_true rfl) ?_
  refine S_aload_n (i := 0) dL_law_4 rfl rfl ?_
  refine S_iconst dL_law_5 rfl ?_
  refine P_invSp 0 [(1, (-2)), (0, 0)] [(1, r1.1), (1, r1.1)] CSX0_cell MLX0_9 dL_law_6 rfl rfl rfl rfl rfl (by omega) h (fun r h => F_X0_cell (by omega) h) (fun v1 h => ?_)
  refine S_aload_n (i := 0) dL_law_9 rfl rfl ?_
  refine S_iconst dL_law_10 rfl ?_
  refine P_invSp 0 [(1, (-2)), (0, 1)] [(0, v1), (1, r1.1), (1, r1.1)] CSX0_cell MLX0_9 dL_law_11 rfl rfl rfl rfl rfl (by omega) h (fun r h => F_X0_cell (by omega) h) (fun v2 h => ?_)
  refine P_invI' [(0, v1), (0, v2)] [(1, r1.1)] CIX1_init MLX0_15 dL_law_14 rfl rfl rfl rfl (by omega) h (fun r h => F_X1_init (by omega) h) (fun M1 h => ?_)
  refine S_astore_n (i := 1) dL_law_17 rfl (Nat.le_of_ble_eq_true rfl) rfl rfl ?_
  change Sem g d YL_law 18 [(1, (-2)), (1, r1.1), (9, 0), (9, 0)] [] M1 o
  refine P_nob NLX0_18 rfl dL_law_18 h (fun r2 h => ?_)
  refine S_dup dL_law_21 (Nat.le_of_ble_eq_true rfl) ?_
  refine S_aload_n (i := 0) dL_law_22 rfl rfl ?_
  refine S_iconst dL_law_23 rfl ?_
  refine P_invSp 0 [(1, (-2)), (0, 0)] [(1, r2.1), (1, r2.1)] CSX0_cell MLX0_9 dL_law_24 rfl rfl rfl rfl rfl (by omega) h (fun r h => F_X0_cell (by omega) h) (fun v3 h => ?_)
  refine S_aload_n (i := 0) dL_law_27 rfl rfl ?_
  refine S_iconst dL_law_28 rfl ?_
  refine P_invSp 0 [(1, (-2)), (0, 1)] [(0, v3), (1, r2.1), (1, r2.1)] CSX0_cell MLX0_9 dL_law_29 rfl rfl rfl rfl rfl (by omega) h (fun r h => F_X0_cell (by omega) h) (fun v4 h => ?_)
  refine P_invI' [(0, v3), (0, v4)] [(1, r2.1)] CIX16_init MLX0_20 dL_law_32 rfl rfl rfl rfl (by omega) h (fun r h => F_X16_init (by omega) h) (fun M2 h => ?_)
  refine S_astore_n (i := 2) dL_law_35 rfl (Nat.le_of_ble_eq_true rfl) rfl rfl ?_
  change Sem g d YL_law 36 [(1, (-2)), (1, r1.1), (1, r2.1), (9, 0)] [] M2 o
  refine S_iconst dL_law_36 rfl ?_
  refine S_istore_n (i := 3) dL_law_37 rfl (Nat.le_of_ble_eq_true rfl) rfl rfl ?_
  change Sem g d YL_law 38 [(1, (-2)), (1, r1.1), (1, r2.1), (0, 2)] [] M2 o
  exact sl_L_law_38 hD r0 h hz
