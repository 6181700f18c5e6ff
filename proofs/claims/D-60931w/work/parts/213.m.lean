set_option maxRecDepth 100000
/-! PeerSearchModel.leave(I)Z -/
theorem dX16_leave_0 : decode cX16_leave 0 = .ok (.aload_n 0, 1) := by decide +kernel
theorem dX16_leave_1 : decode cX16_leave 1 = .ok (.iload_n 1, 1) := by decide +kernel
theorem dX16_leave_2 : decode cX16_leave 2 = .ok (.invokevirtual 729, 3) := by decide +kernel
theorem dX16_leave_5 : decode cX16_leave 5 = .ok (.ifCond .ne 5, 3) := by decide +kernel
theorem dX16_leave_8 : decode cX16_leave 8 = .ok (.iconst 0, 1) := by decide +kernel
theorem dX16_leave_9 : decode cX16_leave 9 = .ok (.ireturn, 1) := by decide +kernel
theorem dX16_leave_10 : decode cX16_leave 10 = .ok (.iconst 0, 1) := by decide +kernel
theorem dX16_leave_11 : decode cX16_leave 11 = .ok (.istore_n 2, 1) := by decide +kernel
theorem dX16_leave_12 : decode cX16_leave 12 = .ok (.aload_n 0, 1) := by decide +kernel
theorem dX16_leave_13 : decode cX16_leave 13 = .ok (.iload_n 1, 1) := by decide +kernel
theorem dX16_leave_14 : decode cX16_leave 14 = .ok (.iconst 0, 1) := by decide +kernel
theorem dX16_leave_15 : decode cX16_leave 15 = .ok (.iconst 0, 1) := by decide +kernel
theorem dX16_leave_16 : decode cX16_leave 16 = .ok (.invokevirtual 735, 3) := by decide +kernel
theorem dX16_leave_19 : decode cX16_leave 19 = .ok (.istore_n 3, 1) := by decide +kernel
theorem dX16_leave_20 : decode cX16_leave 20 = .ok (.iload_n 3, 1) := by decide +kernel
theorem dX16_leave_21 : decode cX16_leave 21 = .ok (.ifCond .lt 36, 3) := by decide +kernel
theorem dX16_leave_24 : decode cX16_leave 24 = .ok (.aload_n 0, 1) := by decide +kernel
theorem dX16_leave_25 : decode cX16_leave 25 = .ok (.iload_n 1, 1) := by decide +kernel
theorem dX16_leave_26 : decode cX16_leave 26 = .ok (.bipush 15, 2) := by decide +kernel
theorem dX16_leave_28 : decode cX16_leave 28 = .ok (.iconst 0, 1) := by decide +kernel
theorem dX16_leave_29 : decode cX16_leave 29 = .ok (.invokevirtual 550, 3) := by decide +kernel
theorem dX16_leave_32 : decode cX16_leave 32 = .ok (.aload_n 0, 1) := by decide +kernel
theorem dX16_leave_33 : decode cX16_leave 33 = .ok (.iload_n 1, 1) := by decide +kernel
theorem dX16_leave_34 : decode cX16_leave 34 = .ok (.aload_n 0, 1) := by decide +kernel
theorem dX16_leave_35 : decode cX16_leave 35 = .ok (.getfield 118, 3) := by decide +kernel
theorem dX16_leave_38 : decode cX16_leave 38 = .ok (.iload_n 3, 1) := by decide +kernel
theorem dX16_leave_39 : decode cX16_leave 39 = .ok (.iaload, 1) := by decide +kernel
theorem dX16_leave_40 : decode cX16_leave 40 = .ok (.invokevirtual 556, 3) := by decide +kernel
theorem dX16_leave_43 : decode cX16_leave 43 = .ok (.iinc 2 1, 3) := by decide +kernel
theorem dX16_leave_46 : decode cX16_leave 46 = .ok (.aload_n 0, 1) := by decide +kernel
theorem dX16_leave_47 : decode cX16_leave 47 = .ok (.iload_n 1, 1) := by decide +kernel
theorem dX16_leave_48 : decode cX16_leave 48 = .ok (.iconst 0, 1) := by decide +kernel
theorem dX16_leave_49 : decode cX16_leave 49 = .ok (.iload_n 2, 1) := by decide +kernel
theorem dX16_leave_50 : decode cX16_leave 50 = .ok (.invokevirtual 735, 3) := by decide +kernel
theorem dX16_leave_53 : decode cX16_leave 53 = .ok (.istore_n 3, 1) := by decide +kernel
theorem dX16_leave_54 : decode cX16_leave 54 = .ok (.goto (-34), 3) := by decide +kernel
theorem dX16_leave_57 : decode cX16_leave 57 = .ok (.aload_n 0, 1) := by decide +kernel
theorem dX16_leave_58 : decode cX16_leave 58 = .ok (.iload_n 1, 1) := by decide +kernel
theorem dX16_leave_59 : decode cX16_leave 59 = .ok (.invokevirtual 732, 3) := by decide +kernel
theorem dX16_leave_62 : decode cX16_leave 62 = .ok (.iconst 1, 1) := by decide +kernel
theorem dX16_leave_63 : decode cX16_leave 63 = .ok (.ireturn, 1) := by decide +kernel
def j_X16_leave_57 (x1 : Int) (V : VV) : Option (Int × VV) :=
  (f_X16_gone x1 V).bind fun V1 =>
  some (1, V1)
def b_X16_leave_20 (x1 x2 x3 : Int) (V : VV) : Option ((Int × Int × VV) ⊕ (Int × VV)) :=
  if w32 x3 < 0 then
    xit (j_X16_leave_57 x1 V)
  else
    (f_X16_head x1 15 0 V).bind fun V1 =>
    (l2 191 35200 x3 V1).bind fun v1 =>
    (f_X16_send x1 v1 V1).bind fun V2 =>
    (f_X16_rowAt x1 0 (x2 + 1) V2).bind fun v2 =>
    cnt (x2 + 1, v2, V2)
def l_X16_leave_20 (x1 x2 x3 : Int) (V : VV) : Option (Int × VV) := lpN (fun s : Int × Int × VV => b_X16_leave_20 x1 s.1 s.2.1 s.2.2) FU (x2, x3, V)
def f_X16_leave (x1 : Int) (V : VV) : Option (Int × VV) :=
  (f_X16_lives x1 V).bind fun v1 =>
  if w32 v1 = 0 then
    some (0, V)
  else
    (f_X16_rowAt x1 0 0 V).bind fun v2 =>
    l_X16_leave_20 x1 0 v2 V
theorem s_X16_leave_57 {g : GG} {d : Nat} (hD : 3 ≤ d) {x1 : Int} {M : MM} (hM : LM M) {V : VV} {o : AV × MM} {P : (Int × VV) → Prop} (r0 : ∀ r : Int × VV, P r → o = ((0, r.1), (wr M r.2))) {z : Int × VV} (h : j_X16_leave_57 x1 V = some z) (hz : P z) : Sem g d YX16_leave 57 [(1, 156), (0, x1), (9, 0), (9, 0)] [] (wr M V) o := by
  delta j_X16_leave_57 at h
  refine S_aload_n (i := 0) dX16_leave_57 rfl rfl ?_
  refine S_iload_n (i := 1) dX16_leave_58 rfl rfl ?_
  refine P2_invVm hM [(0, x1)] [] CVX16_gone MLX16_732 dX16_leave_59 rfl rfl rfl rfl (by omega) h (fun r h => F_X16_gone (by omega) hM h) (fun V1 h => ?_)
  refine S_iconst dX16_leave_62 rfl ?_
  obtain rfl := r0 _ (some_P (P := fun r => P r) h hz)
  exact P_ret dX16_leave_63 rfl (Or.inr ⟨rfl, Or.inr rfl⟩)
theorem s_X16_leave_20 {g : GG} {d : Nat} (hD : 3 ≤ d) {x1 x2 x3 : Int} {M : MM} (hM : LM M) {V : VV} {o : AV × MM} {P : ((Int × Int × VV) ⊕ (Int × VV)) → Prop} (c0 : ∀ s : Int × Int × VV, P (.inl s) → Sem g d YX16_leave 20 [(1, 156), (0, x1), (0, s.1), (0, s.2.1)] [] (wr M s.2.2) o) (r0 : ∀ r : Int × VV, P (.inr r) → o = ((0, r.1), (wr M r.2))) {z : (Int × Int × VV) ⊕ (Int × VV)} (h : b_X16_leave_20 x1 x2 x3 V = some z) (hz : P z) : Sem g d YX16_leave 20 [(1, 156), (0, x1), (0, x2), (0, x3)] [] (wr M V) o := by
  delta b_X16_leave_20 at h
  refine S_iload_n (i := 3) dX16_leave_20 rfl rfl ?_
  refine P_if_lt (tgt := 57) dX16_leave_21 rfl h (fun h => ?_) (fun h => ?_)
  · refine S_weak (ls' := [(1, 156), (0, x1), (9, 0), (9, 0)]) ⟨Or.inr rfl, ⟨Or.inr rfl, ⟨Or.inl rfl, ⟨Or.inl rfl, trivial⟩⟩⟩⟩ ?_
    obtain ⟨z0, h, hz⟩ := xit_some' (P := fun r => P r) h hz
    exact s_X16_leave_57 hD hM (P := fun r => P (.inr r)) r0 h hz
  · refine S_aload_n (i := 0) dX16_leave_24 rfl rfl ?_
    refine S_iload_n (i := 1) dX16_leave_25 rfl rfl ?_
    refine S_bipush (z := 15) dX16_leave_26 rfl ?_
    refine S_iconst dX16_leave_28 rfl ?_
    refine P2_invVm hM [(0, x1), (0, 15), (0, 0)] [] CVX16_head MLX16_550 dX16_leave_29 rfl rfl rfl rfl (by omega) h (fun r h => F_X16_head (by omega) hM h) (fun V1 h => ?_)
    refine S_aload_n (i := 0) dX16_leave_32 rfl rfl ?_
    refine S_iload_n (i := 1) dX16_leave_33 rfl rfl ?_
    refine S_aload_n (i := 0) dX16_leave_34 rfl rfl ?_
    refine P2_gfr hM (a := 191) FLX16_118 rfl ⟨rfl, rfl⟩ dX16_leave_35 ?_
    refine S_iload_n (i := 3) dX16_leave_38 rfl rfl ?_
    refine P2_lai hM (a := 191) (n := 35200) rfl dX16_leave_39 h (fun v1 h => ?_)
    refine P2_invVm hM [(0, x1), (0, v1)] [] CVX16_send MLX16_556 dX16_leave_40 rfl rfl rfl rfl (by omega) h (fun r h => F_X16_send (by omega) hM h) (fun V2 h => ?_)
    refine S_iinc dX16_leave_43 rfl rfl rfl ?_
    change Sem g d YX16_leave 46 [(1, 156), (0, x1), (0, x2 + 1), (0, x3)] [] (wr M V2) o
    refine S_aload_n (i := 0) dX16_leave_46 rfl rfl ?_
    refine S_iload_n (i := 1) dX16_leave_47 rfl rfl ?_
    refine S_iconst dX16_leave_48 rfl ?_
    refine S_iload_n (i := 2) dX16_leave_49 rfl rfl ?_
    refine P2_invVp hM 0 [(0, x1), (0, 0), (0, x2 + 1)] [] CVX16_rowAt MLX16_735 dX16_leave_50 rfl rfl rfl rfl rfl (by omega) h (fun r h => F_X16_rowAt (by omega) hM h) (fun v2 h => ?_)
    refine S_istore_n (i := 3) dX16_leave_53 rfl (Nat.le_of_ble_eq_true rfl) rfl rfl ?_
    change Sem g d YX16_leave 54 [(1, 156), (0, x1), (0, x2 + 1), (0, v2)] [] (wr M V2) o
    refine S_goto (tgt := 20) dX16_leave_54 rfl ?_
    exact c0 (x2 + 1, v2, V2) (some_P (P := fun r => P r) h hz)
theorem sl_X16_leave_20 {g : GG} {d : Nat} (hD : 3 ≤ d) {x1 x2 x3 : Int} {M : MM} (hM : LM M) {V : VV} {o : AV × MM} {P : (Int × VV) → Prop} (r0 : ∀ r : Int × VV, P r → o = ((0, r.1), (wr M r.2))) {z : Int × VV} (h : l_X16_leave_20 x1 x2 x3 V = some z) (hz : P z) : Sem g d YX16_leave 20 [(1, 156), (0, x1), (0, x2), (0, x3)] [] (wr M V) o := by
  refine lp_sound (S := fun s : Int × Int × VV => Sem g d YX16_leave 20 [(1, 156), (0, x1), (0, s.1), (0, s.2.1)] [] (wr M s.2.2) o) (P := P) ?_ FU (x2, x3, V) z h hz
  intro s x hx hP
  exact s_X16_leave_20 hD hM (P := Sum.elim (fun s : Int × Int × VV => Sem g d YX16_leave 20 [(1, 156), (0, x1), (0, s.1), (0, s.2.1)] [] (wr M s.2.2) o) P) (fun s h => h) (fun s h => r0 s h) hx hP
theorem s_X16_leave_0 {g : GG} {d : Nat} (hD : 3 ≤ d) {x1 : Int} {M : MM} (hM : LM M) {V : VV} {o : AV × MM} {P : (Int × VV) → Prop} (r0 : ∀ r : Int × VV, P r → o = ((0, r.1), (wr M r.2))) {z : Int × VV} (h : f_X16_leave x1 V = some z) (hz : P z) : Sem g d YX16_leave 0 [(1, 156), (0, x1), (9, 0), (9, 0)] [] (wr M V) o := by
  delta f_X16_leave at h
  refine S_aload_n (i := 0) dX16_leave_0 rfl rfl ?_
  refine S_iload_n (i := 1) dX16_leave_1 rfl rfl ?_
  refine P2_invVp hM 0 [(0, x1)] [] CVX16_lives MLX16_729 dX16_leave_2 rfl rfl rfl rfl rfl (by omega) h (fun r h => F_X16_lives (by omega) hM h) (fun v1 h => ?_)
  refine P_if_ne (tgt := 10) dX16_leave_5 rfl h (fun h => ?_) (fun h => ?_)
  · refine S_iconst dX16_leave_10 rfl ?_
    refine S_istore_n (i := 2) dX16_leave_11 rfl (Nat.le_of_ble_eq_true rfl) rfl rfl ?_
    change Sem g d YX16_leave 12 [(1, 156), (0, x1), (0, 0), (9, 0)] [] (wr M V) o
    refine S_aload_n (i := 0) dX16_leave_12 rfl rfl ?_
    refine S_iload_n (i := 1) dX16_leave_13 rfl rfl ?_
    refine S_iconst dX16_leave_14 rfl ?_
    refine S_iconst dX16_leave_15 rfl ?_
    refine P2_invVp hM 0 [(0, x1), (0, 0), (0, 0)] [] CVX16_rowAt MLX16_735 dX16_leave_16 rfl rfl rfl rfl rfl (by omega) h (fun r h => F_X16_rowAt (by omega) hM h) (fun v2 h => ?_)
    refine S_istore_n (i := 3) dX16_leave_19 rfl (Nat.le_of_ble_eq_true rfl) rfl rfl ?_
    change Sem g d YX16_leave 20 [(1, 156), (0, x1), (0, 0), (0, v2)] [] (wr M V) o
    exact sl_X16_leave_20 hD hM r0 h hz
  · refine S_iconst dX16_leave_8 rfl ?_
    obtain rfl := r0 _ (some_P (P := fun r => P r) h hz)
    exact P_ret dX16_leave_9 rfl (Or.inr ⟨rfl, Or.inl rfl⟩)
theorem F_X16_leave {g : GG} {d : Nat} (hD : 3 ≤ d) {x1 : Int} {M : MM} (hM : LM M) {V : VV} {r : Int × VV} (h : f_X16_leave x1 V = some r) : Sem g d YX16_leave 0 (ini YX16_leave [(1, 156), (0, x1)]) [] (wr M V) ((0, r.1), (wr M r.2)) := by
  change Sem g d YX16_leave 0 [(1, 156), (0, x1), (9, 0), (9, 0)] [] (wr M V) ((0, r.1), (wr M r.2))
  exact s_X16_leave_0 hD hM (P := fun x => x = r) (fun q e => by rw [e]) h rfl
/-! PeerSearchModel.look(I)I -/
theorem dX16_look_0 : decode cX16_look 0 = .ok (.iconst 0, 1) := by decide +kernel
theorem dX16_look_1 : decode cX16_look 1 = .ok (.istore_n 2, 1) := by decide +kernel
theorem dX16_look_2 : decode cX16_look 2 = .ok (.iconst 0, 1) := by decide +kernel
theorem dX16_look_3 : decode cX16_look 3 = .ok (.istore_n 3, 1) := by decide +kernel
theorem dX16_look_4 : decode cX16_look 4 = .ok (.iload_n 3, 1) := by decide +kernel
theorem dX16_look_5 : decode cX16_look 5 = .ok (.bipush 12, 2) := by decide +kernel
theorem dX16_look_7 : decode cX16_look 7 = .ok (.if_icmp .ge 26, 3) := by decide +kernel
theorem dX16_look_10 : decode cX16_look 10 = .ok (.iload_n 2, 1) := by decide +kernel
theorem dX16_look_11 : decode cX16_look 11 = .ok (.aload_n 0, 1) := by decide +kernel
theorem dX16_look_12 : decode cX16_look 12 = .ok (.getfield 225, 3) := by decide +kernel
theorem dX16_look_15 : decode cX16_look 15 = .ok (.iload_n 3, 1) := by decide +kernel
theorem dX16_look_16 : decode cX16_look 16 = .ok (.baload, 1) := by decide +kernel
theorem dX16_look_17 : decode cX16_look 17 = .ok (.ifCond .eq 7, 3) := by decide +kernel
theorem dX16_look_20 : decode cX16_look 20 = .ok (.iconst 1, 1) := by decide +kernel
theorem dX16_look_21 : decode cX16_look 21 = .ok (.goto 4, 3) := by decide +kernel
theorem dX16_look_24 : decode cX16_look 24 = .ok (.iconst 0, 1) := by decide +kernel
theorem dX16_look_25 : decode cX16_look 25 = .ok (.iadd, 1) := by decide +kernel
theorem dX16_look_26 : decode cX16_look 26 = .ok (.istore_n 2, 1) := by decide +kernel
theorem dX16_look_27 : decode cX16_look 27 = .ok (.iinc 3 1, 3) := by decide +kernel
theorem dX16_look_30 : decode cX16_look 30 = .ok (.goto (-26), 3) := by decide +kernel
theorem dX16_look_33 : decode cX16_look 33 = .ok (.iload_n 1, 1) := by decide +kernel
theorem dX16_look_34 : decode cX16_look 34 = .ok (.ifCond .ne 10, 3) := by decide +kernel
theorem dX16_look_37 : decode cX16_look 37 = .ok (.aload_n 0, 1) := by decide +kernel
theorem dX16_look_38 : decode cX16_look 38 = .ok (.getfield 483, 3) := by decide +kernel
theorem dX16_look_41 : decode cX16_look 41 = .ok (.goto 77, 3) := by decide +kernel
theorem dX16_look_44 : decode cX16_look 44 = .ok (.iload_n 1, 1) := by decide +kernel
theorem dX16_look_45 : decode cX16_look 45 = .ok (.iconst 1, 1) := by decide +kernel
theorem dX16_look_46 : decode cX16_look 46 = .ok (.if_icmp .ne 10, 3) := by decide +kernel
theorem dX16_look_49 : decode cX16_look 49 = .ok (.aload_n 0, 1) := by decide +kernel
theorem dX16_look_50 : decode cX16_look 50 = .ok (.getfield 464, 3) := by decide +kernel
theorem dX16_look_53 : decode cX16_look 53 = .ok (.goto 65, 3) := by decide +kernel
theorem dX16_look_56 : decode cX16_look 56 = .ok (.iload_n 1, 1) := by decide +kernel
theorem dX16_look_57 : decode cX16_look 57 = .ok (.iconst 2, 1) := by decide +kernel
theorem dX16_look_58 : decode cX16_look 58 = .ok (.if_icmp .ne 10, 3) := by decide +kernel
theorem dX16_look_61 : decode cX16_look 61 = .ok (.aload_n 0, 1) := by decide +kernel
theorem dX16_look_62 : decode cX16_look 62 = .ok (.getfield 476, 3) := by decide +kernel
theorem dX16_look_65 : decode cX16_look 65 = .ok (.goto 53, 3) := by decide +kernel
theorem dX16_look_68 : decode cX16_look 68 = .ok (.iload_n 1, 1) := by decide +kernel
theorem dX16_look_69 : decode cX16_look 69 = .ok (.iconst 3, 1) := by decide +kernel
theorem dX16_look_70 : decode cX16_look 70 = .ok (.if_icmp .ne 10, 3) := by decide +kernel
theorem dX16_look_73 : decode cX16_look 73 = .ok (.aload_n 0, 1) := by decide +kernel
theorem dX16_look_74 : decode cX16_look 74 = .ok (.getfield 615, 3) := by decide +kernel
theorem dX16_look_77 : decode cX16_look 77 = .ok (.goto 41, 3) := by decide +kernel
theorem dX16_look_80 : decode cX16_look 80 = .ok (.iload_n 1, 1) := by decide +kernel
theorem dX16_look_81 : decode cX16_look 81 = .ok (.iconst 4, 1) := by decide +kernel
theorem dX16_look_82 : decode cX16_look 82 = .ok (.if_icmp .ne 7, 3) := by decide +kernel
theorem dX16_look_85 : decode cX16_look 85 = .ok (.iload_n 2, 1) := by decide +kernel
theorem dX16_look_86 : decode cX16_look 86 = .ok (.goto 32, 3) := by decide +kernel
theorem dX16_look_89 : decode cX16_look 89 = .ok (.iload_n 1, 1) := by decide +kernel
theorem dX16_look_90 : decode cX16_look 90 = .ok (.iconst 5, 1) := by decide +kernel
theorem dX16_look_91 : decode cX16_look 91 = .ok (.if_icmp .ne 10, 3) := by decide +kernel
theorem dX16_look_94 : decode cX16_look 94 = .ok (.aload_n 0, 1) := by decide +kernel
theorem dX16_look_95 : decode cX16_look 95 = .ok (.getfield 424, 3) := by decide +kernel
theorem dX16_look_98 : decode cX16_look 98 = .ok (.goto 20, 3) := by decide +kernel
theorem dX16_look_101 : decode cX16_look 101 = .ok (.iload_n 1, 1) := by decide +kernel
theorem dX16_look_102 : decode cX16_look 102 = .ok (.bipush 6, 2) := by decide +kernel
theorem dX16_look_104 : decode cX16_look 104 = .ok (.if_icmp .ne 13, 3) := by decide +kernel
theorem dX16_look_107 : decode cX16_look 107 = .ok (.aload_n 0, 1) := by decide +kernel
theorem dX16_look_108 : decode cX16_look 108 = .ok (.getfield 25, 3) := by decide +kernel
theorem dX16_look_111 : decode cX16_look 111 = .ok (.bipush 10, 2) := by decide +kernel
theorem dX16_look_113 : decode cX16_look 113 = .ok (.iaload, 1) := by decide +kernel
theorem dX16_look_114 : decode cX16_look 114 = .ok (.goto 4, 3) := by decide +kernel
theorem dX16_look_117 : decode cX16_look 117 = .ok (.iconst (-1), 1) := by decide +kernel
theorem dX16_look_118 : decode cX16_look 118 = .ok (.ireturn, 1) := by decide +kernel
def j_X16_look_118 (y0 : Int) (V : VV) : Option (Int) :=
  some y0
def j_X16_look_33 (x1 x2 : Int) (V : VV) : Option (Int) :=
  if w32 x1 = 0 then
    j_X16_look_118 (w32 (V 156 11)) V
  else
    if w32 x1 = w32 1 then
      j_X16_look_118 (w32 (V 156 32)) V
    else
      if w32 x1 = w32 2 then
        j_X16_look_118 (w32 (V 156 12)) V
      else
        if w32 x1 = w32 3 then
          j_X16_look_118 (w32 (V 156 91)) V
        else
          if w32 x1 = w32 4 then
            j_X16_look_118 x2 V
          else
            if w32 x1 = w32 5 then
              j_X16_look_118 (w32 (V 156 13)) V
            else
              if w32 x1 = w32 6 then
                (l2 162 11 10 V).bind fun v1 =>
                j_X16_look_118 v1 V
              else
                j_X16_look_118 (-1) V
def j_X16_look_25 (x1 x3 y0 y1 : Int) (V : VV) : Option ((Int × Int) ⊕ (Int)) :=
  cnt (y0 + y1, x3 + 1)
def b_X16_look_4 (x1 x2 x3 : Int) (V : VV) : Option ((Int × Int) ⊕ (Int)) :=
  if w32 x3 < w32 12 then
    (l2 226 44 x3 V).bind fun v1 =>
    if w32 v1 = 0 then
      j_X16_look_25 x1 x3 x2 0 V
    else
      j_X16_look_25 x1 x3 x2 1 V
  else
    xit (j_X16_look_33 x1 x2 V)
def l_X16_look_4 (x1 x2 x3 : Int) (V : VV) : Option (Int) := lpN (fun s : Int × Int => b_X16_look_4 x1 s.1 s.2 V) FU (x2, x3)
def f_X16_look (x1 : Int) (V : VV) : Option (Int) :=
  l_X16_look_4 x1 0 0 V
theorem s_X16_look_118 {g : GG} {d : Nat} (hD : 0 ≤ d) {y0 : Int} {M : MM} (hM : LM M) {V : VV} {o : AV × MM} {P : (Int) → Prop} (r0 : ∀ r : Int, P r → o = ((0, r), (wr M V))) {z : Int} (h : j_X16_look_118 y0 V = some z) (hz : P z) : Sem g d YX16_look 118 [(9, 0), (9, 0), (9, 0), (9, 0)] [(0, y0)] (wr M V) o := by
  delta j_X16_look_118 at h
  obtain rfl := r0 _ (some_P (P := fun r => P r) h hz)
  exact P_ret dX16_look_118 rfl (Or.inl rfl)
theorem s_X16_look_33 {g : GG} {d : Nat} (hD : 0 ≤ d) {x1 x2 : Int} {M : MM} (hM : LM M) {V : VV} {o : AV × MM} {P : (Int) → Prop} (r0 : ∀ r : Int, P r → o = ((0, r), (wr M V))) {z : Int} (h : j_X16_look_33 x1 x2 V = some z) (hz : P z) : Sem g d YX16_look 33 [(1, 156), (0, x1), (0, x2), (9, 0)] [] (wr M V) o := by
  delta j_X16_look_33 at h
  refine S_iload_n (i := 1) dX16_look_33 rfl rfl ?_
  refine P_if_ne (tgt := 44) dX16_look_34 rfl h (fun h => ?_) (fun h => ?_)
  · refine S_iload_n (i := 1) dX16_look_44 rfl rfl ?_
    refine S_iconst dX16_look_45 rfl ?_
    refine P_icmp_ne (tgt := 56) dX16_look_46 rfl h (fun h => ?_) (fun h => ?_)
    · refine S_iload_n (i := 1) dX16_look_56 rfl rfl ?_
      refine S_iconst dX16_look_57 rfl ?_
      refine P_icmp_ne (tgt := 68) dX16_look_58 rfl h (fun h => ?_) (fun h => ?_)
      · refine S_iload_n (i := 1) dX16_look_68 rfl rfl ?_
        refine S_iconst dX16_look_69 rfl ?_
        refine P_icmp_ne (tgt := 80) dX16_look_70 rfl h (fun h => ?_) (fun h => ?_)
        · refine S_iload_n (i := 1) dX16_look_80 rfl rfl ?_
          refine S_iconst dX16_look_81 rfl ?_
          refine P_icmp_ne (tgt := 89) dX16_look_82 rfl h (fun h => ?_) (fun h => ?_)
          · refine S_iload_n (i := 1) dX16_look_89 rfl rfl ?_
            refine S_iconst dX16_look_90 rfl ?_
            refine P_icmp_ne (tgt := 101) dX16_look_91 rfl h (fun h => ?_) (fun h => ?_)
            · refine S_iload_n (i := 1) dX16_look_101 rfl rfl ?_
              refine S_bipush (z := 6) dX16_look_102 rfl ?_
              refine P_icmp_ne (tgt := 117) dX16_look_104 rfl h (fun h => ?_) (fun h => ?_)
              · refine S_iconst dX16_look_117 rfl ?_
                refine S_weak (ls' := [(9, 0), (9, 0), (9, 0), (9, 0)]) ⟨Or.inl rfl, ⟨Or.inl rfl, ⟨Or.inl rfl, ⟨Or.inl rfl, trivial⟩⟩⟩⟩ ?_
                exact s_X16_look_118 hD hM r0 h hz
              · refine S_aload_n (i := 0) dX16_look_107 rfl rfl ?_
                refine P2_gfr hM (a := 162) FLX16_25 rfl ⟨rfl, rfl⟩ dX16_look_108 ?_
                refine S_bipush (z := 10) dX16_look_111 rfl ?_
                refine P2_lai hM (a := 162) (n := 11) rfl dX16_look_113 h (fun v1 h => ?_)
                refine S_goto (tgt := 118) dX16_look_114 rfl ?_
                refine S_weak (ls' := [(9, 0), (9, 0), (9, 0), (9, 0)]) ⟨Or.inl rfl, ⟨Or.inl rfl, ⟨Or.inl rfl, ⟨Or.inl rfl, trivial⟩⟩⟩⟩ ?_
                exact s_X16_look_118 hD hM r0 h hz
            · refine S_aload_n (i := 0) dX16_look_94 rfl rfl ?_
              refine P2_gfi hM FLX16_424 rfl dX16_look_95 ?_
              refine S_goto (tgt := 118) dX16_look_98 rfl ?_
              refine S_weak (ls' := [(9, 0), (9, 0), (9, 0), (9, 0)]) ⟨Or.inl rfl, ⟨Or.inl rfl, ⟨Or.inl rfl, ⟨Or.inl rfl, trivial⟩⟩⟩⟩ ?_
              exact s_X16_look_118 hD hM r0 h hz
          · refine S_iload_n (i := 2) dX16_look_85 rfl rfl ?_
            refine S_goto (tgt := 118) dX16_look_86 rfl ?_
            refine S_weak (ls' := [(9, 0), (9, 0), (9, 0), (9, 0)]) ⟨Or.inl rfl, ⟨Or.inl rfl, ⟨Or.inl rfl, ⟨Or.inl rfl, trivial⟩⟩⟩⟩ ?_
            exact s_X16_look_118 hD hM r0 h hz
        · refine S_aload_n (i := 0) dX16_look_73 rfl rfl ?_
          refine P2_gfi hM FLX16_615 rfl dX16_look_74 ?_
          refine S_goto (tgt := 118) dX16_look_77 rfl ?_
          refine S_weak (ls' := [(9, 0), (9, 0), (9, 0), (9, 0)]) ⟨Or.inl rfl, ⟨Or.inl rfl, ⟨Or.inl rfl, ⟨Or.inl rfl, trivial⟩⟩⟩⟩ ?_
          exact s_X16_look_118 hD hM r0 h hz
      · refine S_aload_n (i := 0) dX16_look_61 rfl rfl ?_
        refine P2_gfi hM FLX16_476 rfl dX16_look_62 ?_
        refine S_goto (tgt := 118) dX16_look_65 rfl ?_
        refine S_weak (ls' := [(9, 0), (9, 0), (9, 0), (9, 0)]) ⟨Or.inl rfl, ⟨Or.inl rfl, ⟨Or.inl rfl, ⟨Or.inl rfl, trivial⟩⟩⟩⟩ ?_
        exact s_X16_look_118 hD hM r0 h hz
    · refine S_aload_n (i := 0) dX16_look_49 rfl rfl ?_
      refine P2_gfi hM FLX16_464 rfl dX16_look_50 ?_
      refine S_goto (tgt := 118) dX16_look_53 rfl ?_
      refine S_weak (ls' := [(9, 0), (9, 0), (9, 0), (9, 0)]) ⟨Or.inl rfl, ⟨Or.inl rfl, ⟨Or.inl rfl, ⟨Or.inl rfl, trivial⟩⟩⟩⟩ ?_
      exact s_X16_look_118 hD hM r0 h hz
  · refine S_aload_n (i := 0) dX16_look_37 rfl rfl ?_
    refine P2_gfi hM FLX16_483 rfl dX16_look_38 ?_
    refine S_goto (tgt := 118) dX16_look_41 rfl ?_
    refine S_weak (ls' := [(9, 0), (9, 0), (9, 0), (9, 0)]) ⟨Or.inl rfl, ⟨Or.inl rfl, ⟨Or.inl rfl, ⟨Or.inl rfl, trivial⟩⟩⟩⟩ ?_
    exact s_X16_look_118 hD hM r0 h hz
theorem s_X16_look_25 {g : GG} {d : Nat} (hD : 0 ≤ d) {x1 x3 y0 y1 : Int} {M : MM} (hM : LM M) {V : VV} {o : AV × MM} {P : ((Int × Int) ⊕ (Int)) → Prop} (c0 : ∀ s : Int × Int, P (.inl s) → Sem g d YX16_look 4 [(1, 156), (0, x1), (0, s.1), (0, s.2)] [] (wr M V) o) (r0 : ∀ r : Int, P (.inr r) → o = ((0, r), (wr M V))) {z : (Int × Int) ⊕ (Int)} (h : j_X16_look_25 x1 x3 y0 y1 V = some z) (hz : P z) : Sem g d YX16_look 25 [(1, 156), (0, x1), (9, 0), (0, x3)] [(0, y1), (0, y0)] (wr M V) o := by
  delta j_X16_look_25 at h
  refine S_iadd dX16_look_25 ?_
  refine S_istore_n (i := 2) dX16_look_26 rfl (Nat.le_of_ble_eq_true rfl) rfl rfl ?_
  change Sem g d YX16_look 27 [(1, 156), (0, x1), (0, y0 + y1), (0, x3)] [] (wr M V) o
  refine S_iinc dX16_look_27 rfl rfl rfl ?_
  change Sem g d YX16_look 30 [(1, 156), (0, x1), (0, y0 + y1), (0, x3 + 1)] [] (wr M V) o
  refine S_goto (tgt := 4) dX16_look_30 rfl ?_
  exact c0 (y0 + y1, x3 + 1) (some_P (P := fun r => P r) h hz)
theorem s_X16_look_4 {g : GG} {d : Nat} (hD : 0 ≤ d) {x1 x2 x3 : Int} {M : MM} (hM : LM M) {V : VV} {o : AV × MM} {P : ((Int × Int) ⊕ (Int)) → Prop} (c0 : ∀ s : Int × Int, P (.inl s) → Sem g d YX16_look 4 [(1, 156), (0, x1), (0, s.1), (0, s.2)] [] (wr M V) o) (r0 : ∀ r : Int, P (.inr r) → o = ((0, r), (wr M V))) {z : (Int × Int) ⊕ (Int)} (h : b_X16_look_4 x1 x2 x3 V = some z) (hz : P z) : Sem g d YX16_look 4 [(1, 156), (0, x1), (0, x2), (0, x3)] [] (wr M V) o := by
  delta b_X16_look_4 at h
  refine S_iload_n (i := 3) dX16_look_4 rfl rfl ?_
  refine S_bipush (z := 12) dX16_look_5 rfl ?_
  refine P_icmp_ge (tgt := 33) dX16_look_7 rfl h (fun h => ?_) (fun h => ?_)
  · refine S_weak (ls' := [(1, 156), (0, x1), (0, x2), (9, 0)]) ⟨Or.inr rfl, ⟨Or.inr rfl, ⟨Or.inr rfl, ⟨Or.inl rfl, trivial⟩⟩⟩⟩ ?_
    obtain ⟨z0, h, hz⟩ := xit_some' (P := fun r => P r) h hz
    exact s_X16_look_33 hD hM (P := fun r => P (.inr r)) r0 h hz
  · refine S_iload_n (i := 2) dX16_look_10 rfl rfl ?_
    refine S_aload_n (i := 0) dX16_look_11 rfl rfl ?_
    refine P2_gfr hM (a := 226) FLX16_225 rfl ⟨rfl, rfl⟩ dX16_look_12 ?_
    refine S_iload_n (i := 3) dX16_look_15 rfl rfl ?_
    refine P2_laz hM (a := 226) (n := 44) rfl dX16_look_16 h (fun v1 h => ?_)
    refine P_if_eq (tgt := 24) dX16_look_17 rfl h (fun h => ?_) (fun h => ?_)
    · refine S_iconst dX16_look_24 rfl ?_
      refine S_weak (ls' := [(1, 156), (0, x1), (9, 0), (0, x3)]) ⟨Or.inr rfl, ⟨Or.inr rfl, ⟨Or.inl rfl, ⟨Or.inr rfl, trivial⟩⟩⟩⟩ ?_
      exact s_X16_look_25 hD hM c0 r0 h hz
    · refine S_iconst dX16_look_20 rfl ?_
      refine S_goto (tgt := 25) dX16_look_21 rfl ?_
      refine S_weak (ls' := [(1, 156), (0, x1), (9, 0), (0, x3)]) ⟨Or.inr rfl, ⟨Or.inr rfl, ⟨Or.inl rfl, ⟨Or.inr rfl, trivial⟩⟩⟩⟩ ?_
      exact s_X16_look_25 hD hM c0 r0 h hz
theorem sl_X16_look_4 {g : GG} {d : Nat} (hD : 0 ≤ d) {x1 x2 x3 : Int} {M : MM} (hM : LM M) {V : VV} {o : AV × MM} {P : (Int) → Prop} (r0 : ∀ r : Int, P r → o = ((0, r), (wr M V))) {z : Int} (h : l_X16_look_4 x1 x2 x3 V = some z) (hz : P z) : Sem g d YX16_look 4 [(1, 156), (0, x1), (0, x2), (0, x3)] [] (wr M V) o := by
  refine lp_sound (S := fun s : Int × Int => Sem g d YX16_look 4 [(1, 156), (0, x1), (0, s.1), (0, s.2)] [] (wr M V) o) (P := P) ?_ FU (x2, x3) z h hz
  intro s x hx hP
  exact s_X16_look_4 hD hM (P := Sum.elim (fun s : Int × Int => Sem g d YX16_look 4 [(1, 156), (0, x1), (0, s.1), (0, s.2)] [] (wr M V) o) P) (fun s h => h) (fun s h => r0 s h) hx hP
theorem s_X16_look_0 {g : GG} {d : Nat} (hD : 0 ≤ d) {x1 : Int} {M : MM} (hM : LM M) {V : VV} {o : AV × MM} {P : (Int) → Prop} (r0 : ∀ r : Int, P r → o = ((0, r), (wr M V))) {z : Int} (h : f_X16_look x1 V = some z) (hz : P z) : Sem g d YX16_look 0 [(1, 156), (0, x1), (9, 0), (9, 0)] [] (wr M V) o := by
  delta f_X16_look at h
  refine S_iconst dX16_look_0 rfl ?_
  refine S_istore_n (i := 2) dX16_look_1 rfl (Nat.le_of_ble_eq_true rfl) rfl rfl ?_
  change Sem g d YX16_look 2 [(1, 156), (0, x1), (0, 0), (9, 0)] [] (wr M V) o
  refine S_iconst dX16_look_2 rfl ?_
  refine S_istore_n (i := 3) dX16_look_3 rfl (Nat.le_of_ble_eq_true rfl) rfl rfl ?_
  change Sem g d YX16_look 4 [(1, 156), (0, x1), (0, 0), (0, 0)] [] (wr M V) o
  exact sl_X16_look_4 hD hM r0 h hz
theorem F_X16_look {g : GG} {d : Nat} (hD : 0 ≤ d) {x1 : Int} {M : MM} (hM : LM M) {V : VV} {r : Int} (h : f_X16_look x1 V = some r) : Sem g d YX16_look 0 (ini YX16_look [(1, 156), (0, x1)]) [] (wr M V) ((0, r), (wr M V)) := by
  change Sem g d YX16_look 0 [(1, 156), (0, x1), (9, 0), (9, 0)] [] (wr M V) ((0, r), (wr M V))
  exact s_X16_look_0 hD hM (P := fun x => x = r) (fun q e => by rw [e]) h rfl
/-! PeerSearchModel.lookup(I)I -/
theorem dX16_lookup_0 : decode cX16_lookup 0 = .ok (.aload_n 0, 1) := by decide +kernel
theorem dX16_lookup_1 : decode cX16_lookup 1 = .ok (.invokevirtual 431, 3) := by decide +kernel
theorem dX16_lookup_4 : decode cX16_lookup 4 = .ok (.aload_n 0, 1) := by decide +kernel
theorem dX16_lookup_5 : decode cX16_lookup 5 = .ok (.iconst 0, 1) := by decide +kernel
theorem dX16_lookup_6 : decode cX16_lookup 6 = .ok (.putfield 387, 3) := by decide +kernel
theorem dX16_lookup_9 : decode cX16_lookup 9 = .ok (.aload_n 0, 1) := by decide +kernel
theorem dX16_lookup_10 : decode cX16_lookup 10 = .ok (.invokevirtual 717, 3) := by decide +kernel
theorem dX16_lookup_13 : decode cX16_lookup 13 = .ok (.istore_n 2, 1) := by decide +kernel
theorem dX16_lookup_14 : decode cX16_lookup 14 = .ok (.aload_n 0, 1) := by decide +kernel
theorem dX16_lookup_15 : decode cX16_lookup 15 = .ok (.iload_n 1, 1) := by decide +kernel
theorem dX16_lookup_16 : decode cX16_lookup 16 = .ok (.invokevirtual 729, 3) := by decide +kernel
theorem dX16_lookup_19 : decode cX16_lookup 19 = .ok (.ifCond .eq 7, 3) := by decide +kernel
theorem dX16_lookup_22 : decode cX16_lookup 22 = .ok (.iload_n 2, 1) := by decide +kernel
theorem dX16_lookup_23 : decode cX16_lookup 23 = .ok (.ifCond .ge 5, 3) := by decide +kernel
theorem dX16_lookup_26 : decode cX16_lookup 26 = .ok (.iconst (-1), 1) := by decide +kernel
theorem dX16_lookup_27 : decode cX16_lookup 27 = .ok (.ireturn, 1) := by decide +kernel
theorem dX16_lookup_28 : decode cX16_lookup 28 = .ok (.aload_n 0, 1) := by decide +kernel
theorem dX16_lookup_29 : decode cX16_lookup 29 = .ok (.iload_n 2, 1) := by decide +kernel
theorem dX16_lookup_30 : decode cX16_lookup 30 = .ok (.iconst 1, 1) := by decide +kernel
theorem dX16_lookup_31 : decode cX16_lookup 31 = .ok (.iload_n 1, 1) := by decide +kernel
theorem dX16_lookup_32 : decode cX16_lookup 32 = .ok (.invokevirtual 720, 3) := by decide +kernel
theorem dX16_lookup_35 : decode cX16_lookup 35 = .ok (.aload_n 0, 1) := by decide +kernel
theorem dX16_lookup_36 : decode cX16_lookup 36 = .ok (.getfield 131, 3) := by decide +kernel
theorem dX16_lookup_39 : decode cX16_lookup 39 = .ok (.iconst 0, 1) := by decide +kernel
theorem dX16_lookup_40 : decode cX16_lookup 40 = .ok (.aload_n 0, 1) := by decide +kernel
theorem dX16_lookup_41 : decode cX16_lookup 41 = .ok (.getfield 22, 3) := by decide +kernel
theorem dX16_lookup_44 : decode cX16_lookup 44 = .ok (.iconst 0, 1) := by decide +kernel
theorem dX16_lookup_45 : decode cX16_lookup 45 = .ok (.invokestatic 438, 3) := by decide +kernel
theorem dX16_lookup_48 : decode cX16_lookup 48 = .ok (.aload_n 0, 1) := by decide +kernel
theorem dX16_lookup_49 : decode cX16_lookup 49 = .ok (.iload_n 2, 1) := by decide +kernel
theorem dX16_lookup_50 : decode cX16_lookup 50 = .ok (.aload_n 0, 1) := by decide +kernel
theorem dX16_lookup_51 : decode cX16_lookup 51 = .ok (.getfield 131, 3) := by decide +kernel
theorem dX16_lookup_54 : decode cX16_lookup 54 = .ok (.iconst 0, 1) := by decide +kernel
theorem dX16_lookup_55 : decode cX16_lookup 55 = .ok (.iconst 0, 1) := by decide +kernel
theorem dX16_lookup_56 : decode cX16_lookup 56 = .ok (.invokevirtual 668, 3) := by decide +kernel
theorem dX16_lookup_59 : decode cX16_lookup 59 = .ok (.aload_n 0, 1) := by decide +kernel
theorem dX16_lookup_60 : decode cX16_lookup 60 = .ok (.iload_n 2, 1) := by decide +kernel
theorem dX16_lookup_61 : decode cX16_lookup 61 = .ok (.invokevirtual 726, 3) := by decide +kernel
theorem dX16_lookup_64 : decode cX16_lookup 64 = .ok (.aload_n 0, 1) := by decide +kernel
theorem dX16_lookup_65 : decode cX16_lookup 65 = .ok (.getfield 615, 3) := by decide +kernel
theorem dX16_lookup_68 : decode cX16_lookup 68 = .ok (.iconst 1, 1) := by decide +kernel
theorem dX16_lookup_69 : decode cX16_lookup 69 = .ok (.isub, 1) := by decide +kernel
theorem dX16_lookup_70 : decode cX16_lookup 70 = .ok (.ireturn, 1) := by decide +kernel
def j_X16_lookup_26 (V : VV) : Option (Int × VV) :=
  some ((-1), V)
def f_X16_lookup (x1 : Int) (V : VV) : Option (Int × VV) :=
  (f_X16_hashTape V).bind fun V1 =>
  (p2 4 0 V1).bind fun V2 =>
  (f_X16_freePlace V2).bind fun v1 =>
  (f_X16_lives x1 V2).bind fun v2 =>
  if w32 v2 = 0 then
    j_X16_lookup_26 V2
  else
    if w32 v1 < 0 then
      j_X16_lookup_26 V2
    else
      (f_X16_open v1 1 x1 V2).bind fun V3 =>
      (f_X16_put 195 0 161 0 V3).bind fun V4 =>
      (f_X16_beginLookup v1 195 0 0 V4).bind fun V5 =>
      (f_X16_proceed v1 V5).bind fun V6 =>
      some ((w32 (V6 156 91)) - 1, V6)
theorem s_X16_lookup_26 {g : GG} {d : Nat} (hD : 9 ≤ d) {M : MM} (hM : LM M) {V : VV} {o : AV × MM} {P : (Int × VV) → Prop} (r0 : ∀ r : Int × VV, P r → o = ((0, r.1), (wr M r.2))) {z : Int × VV} (h : j_X16_lookup_26 V = some z) (hz : P z) : Sem g d YX16_lookup 26 [(9, 0), (9, 0), (9, 0)] [] (wr M V) o := by
  delta j_X16_lookup_26 at h
  refine S_iconst dX16_lookup_26 rfl ?_
  obtain rfl := r0 _ (some_P (P := fun r => P r) h hz)
  exact P_ret dX16_lookup_27 rfl (Or.inl rfl)
theorem s_X16_lookup_0 {g : GG} {d : Nat} (hD : 9 ≤ d) {x1 : Int} {M : MM} (hM : LM M) {V : VV} {o : AV × MM} {P : (Int × VV) → Prop} (r0 : ∀ r : Int × VV, P r → o = ((0, r.1), (wr M r.2))) {z : Int × VV} (h : f_X16_lookup x1 V = some z) (hz : P z) : Sem g d YX16_lookup 0 [(1, 156), (0, x1), (9, 0)] [] (wr M V) o := by
  delta f_X16_lookup at h
  refine S_aload_n (i := 0) dX16_lookup_0 rfl rfl ?_
  refine P2_invVm hM [] [] CVX16_hashTape MLX16_431 dX16_lookup_1 rfl rfl rfl rfl (by omega) h (fun r h => F_X16_hashTape (by omega) hM h) (fun V1 h => ?_)
  refine S_aload_n (i := 0) dX16_lookup_4 rfl rfl ?_
  refine S_iconst dX16_lookup_5 rfl ?_
  refine P2_pfi hM FLX16_387 FPX16_387 rfl dX16_lookup_6 h (fun V2 h => ?_)
  refine S_aload_n (i := 0) dX16_lookup_9 rfl rfl ?_
  refine P2_invVp hM 0 [] [] CVX16_freePlace MLX16_717 dX16_lookup_10 rfl rfl rfl rfl rfl (by omega) h (fun r h => F_X16_freePlace (by omega) hM h) (fun v1 h => ?_)
  refine S_istore_n (i := 2) dX16_lookup_13 rfl (Nat.le_of_ble_eq_true rfl) rfl rfl ?_
  change Sem g d YX16_lookup 14 [(1, 156), (0, x1), (0, v1)] [] (wr M V2) o
  refine S_aload_n (i := 0) dX16_lookup_14 rfl rfl ?_
  refine S_iload_n (i := 1) dX16_lookup_15 rfl rfl ?_
  refine P2_invVp hM 0 [(0, x1)] [] CVX16_lives MLX16_729 dX16_lookup_16 rfl rfl rfl rfl rfl (by omega) h (fun r h => F_X16_lives (by omega) hM h) (fun v2 h => ?_)
  refine P_if_eq (tgt := 26) dX16_lookup_19 rfl h (fun h => ?_) (fun h => ?_)
  · refine S_weak (ls' := [(9, 0), (9, 0), (9, 0)]) ⟨Or.inl rfl, ⟨Or.inl rfl, ⟨Or.inl rfl, trivial⟩⟩⟩ ?_
    exact s_X16_lookup_26 hD hM r0 h hz
  · refine S_iload_n (i := 2) dX16_lookup_22 rfl rfl ?_
    refine P_if_ge (tgt := 28) dX16_lookup_23 rfl h (fun h => ?_) (fun h => ?_)
    · refine S_aload_n (i := 0) dX16_lookup_28 rfl rfl ?_
      refine S_iload_n (i := 2) dX16_lookup_29 rfl rfl ?_
      refine S_iconst dX16_lookup_30 rfl ?_
      refine S_iload_n (i := 1) dX16_lookup_31 rfl rfl ?_
      refine P2_invVm hM [(0, v1), (0, 1), (0, x1)] [] CVX16_open MLX16_720 dX16_lookup_32 rfl rfl rfl rfl (by omega) h (fun r h => F_X16_open (by omega) hM h) (fun V3 h => ?_)
      refine S_aload_n (i := 0) dX16_lookup_35 rfl rfl ?_
      refine P2_gfr hM (a := 195) FLX16_131 rfl ⟨rfl, rfl⟩ dX16_lookup_36 ?_
      refine S_iconst dX16_lookup_39 rfl ?_
      refine S_aload_n (i := 0) dX16_lookup_40 rfl rfl ?_
      refine P2_gfr hM (a := 161) FLX16_22 rfl ⟨rfl, rfl⟩ dX16_lookup_41 ?_
      refine S_iconst dX16_lookup_44 rfl ?_
      refine P2_invSm hM [(1, 195), (0, 0), (1, 161), (0, 0)] [] CSX16_put MLX16_438 dX16_lookup_45 rfl rfl rfl rfl (by omega) h (fun r h => F_X16_put (by omega) hM h) (fun V4 h => ?_)
      refine S_aload_n (i := 0) dX16_lookup_48 rfl rfl ?_
      refine S_iload_n (i := 2) dX16_lookup_49 rfl rfl ?_
      refine S_aload_n (i := 0) dX16_lookup_50 rfl rfl ?_
      refine P2_gfr hM (a := 195) FLX16_131 rfl ⟨rfl, rfl⟩ dX16_lookup_51 ?_
      refine S_iconst dX16_lookup_54 rfl ?_
      refine S_iconst dX16_lookup_55 rfl ?_
      refine P2_invVm hM [(0, v1), (1, 195), (0, 0), (0, 0)] [] CVX16_beginLookup MLX16_668 dX16_lookup_56 rfl rfl rfl rfl (by omega) h (fun r h => F_X16_beginLookup (by omega) hM h) (fun V5 h => ?_)
      refine S_aload_n (i := 0) dX16_lookup_59 rfl rfl ?_
      refine S_iload_n (i := 2) dX16_lookup_60 rfl rfl ?_
      refine P2_invVm hM [(0, v1)] [] CVX16_proceed MLX16_726 dX16_lookup_61 rfl rfl rfl rfl (by omega) h (fun r h => F_X16_proceed (by omega) hM h) (fun V6 h => ?_)
      refine S_aload_n (i := 0) dX16_lookup_64 rfl rfl ?_
      refine P2_gfi hM FLX16_615 rfl dX16_lookup_65 ?_
      refine S_iconst dX16_lookup_68 rfl ?_
      refine S_isub dX16_lookup_69 ?_
      obtain rfl := r0 _ (some_P (P := fun r => P r) h hz)
      exact P_ret dX16_lookup_70 rfl (Or.inl rfl)
    · refine S_weak (ls' := [(9, 0), (9, 0), (9, 0)]) ⟨Or.inl rfl, ⟨Or.inl rfl, ⟨Or.inl rfl, trivial⟩⟩⟩ ?_
      exact s_X16_lookup_26 hD hM r0 h hz
theorem F_X16_lookup {g : GG} {d : Nat} (hD : 9 ≤ d) {x1 : Int} {M : MM} (hM : LM M) {V : VV} {r : Int × VV} (h : f_X16_lookup x1 V = some r) : Sem g d YX16_lookup 0 (ini YX16_lookup [(1, 156), (0, x1)]) [] (wr M V) ((0, r.1), (wr M r.2)) := by
  change Sem g d YX16_lookup 0 [(1, 156), (0, x1), (9, 0)] [] (wr M V) ((0, r.1), (wr M r.2))
  exact s_X16_lookup_0 hD hM (P := fun x => x = r) (fun q e => by rw [e]) h rfl
/-! PeerSearchModel.nearest(I)I -/
theorem dX16_nearest_0 : decode cX16_nearest 0 = .ok (.aload_n 0, 1) := by decide +kernel
theorem dX16_nearest_1 : decode cX16_nearest 1 = .ok (.invokevirtual 431, 3) := by decide +kernel
theorem dX16_nearest_4 : decode cX16_nearest 4 = .ok (.iconst 0, 1) := by decide +kernel
theorem dX16_nearest_5 : decode cX16_nearest 5 = .ok (.istore_n 2, 1) := by decide +kernel
theorem dX16_nearest_6 : decode cX16_nearest 6 = .ok (.iload_n 2, 1) := by decide +kernel
theorem dX16_nearest_7 : decode cX16_nearest 7 = .ok (.aload_n 0, 1) := by decide +kernel
theorem dX16_nearest_8 : decode cX16_nearest 8 = .ok (.getfield 424, 3) := by decide +kernel
theorem dX16_nearest_11 : decode cX16_nearest 11 = .ok (.if_icmp .ge 97, 3) := by decide +kernel
theorem dX16_nearest_14 : decode cX16_nearest 14 = .ok (.iconst 0, 1) := by decide +kernel
theorem dX16_nearest_15 : decode cX16_nearest 15 = .ok (.istore_n 3, 1) := by decide +kernel
theorem dX16_nearest_16 : decode cX16_nearest 16 = .ok (.iconst 0, 1) := by decide +kernel
theorem dX16_nearest_17 : decode cX16_nearest 17 = .ok (.istore 4, 2) := by decide +kernel
theorem dX16_nearest_19 : decode cX16_nearest 19 = .ok (.iload 4, 2) := by decide +kernel
theorem dX16_nearest_21 : decode cX16_nearest 21 = .ok (.aload_n 0, 1) := by decide +kernel
theorem dX16_nearest_22 : decode cX16_nearest 22 = .ok (.getfield 424, 3) := by decide +kernel
theorem dX16_nearest_25 : decode cX16_nearest 25 = .ok (.if_icmp .ge 60, 3) := by decide +kernel
theorem dX16_nearest_28 : decode cX16_nearest 28 = .ok (.iload_n 3, 1) := by decide +kernel
theorem dX16_nearest_29 : decode cX16_nearest 29 = .ok (.iload 4, 2) := by decide +kernel
theorem dX16_nearest_31 : decode cX16_nearest 31 = .ok (.iload_n 2, 1) := by decide +kernel
theorem dX16_nearest_32 : decode cX16_nearest 32 = .ok (.if_icmp .eq 44, 3) := by decide +kernel
theorem dX16_nearest_35 : decode cX16_nearest 35 = .ok (.aload_n 0, 1) := by decide +kernel
theorem dX16_nearest_36 : decode cX16_nearest 36 = .ok (.getfield 42, 3) := by decide +kernel
theorem dX16_nearest_39 : decode cX16_nearest 39 = .ok (.iload 4, 2) := by decide +kernel
theorem dX16_nearest_41 : decode cX16_nearest 41 = .ok (.iaload, 1) := by decide +kernel
theorem dX16_nearest_42 : decode cX16_nearest 42 = .ok (.iconst 1, 1) := by decide +kernel
theorem dX16_nearest_43 : decode cX16_nearest 43 = .ok (.if_icmp .ne 33, 3) := by decide +kernel
theorem dX16_nearest_46 : decode cX16_nearest 46 = .ok (.aload_n 0, 1) := by decide +kernel
theorem dX16_nearest_47 : decode cX16_nearest 47 = .ok (.getfield 36, 3) := by decide +kernel
theorem dX16_nearest_50 : decode cX16_nearest 50 = .ok (.iconst 5, 1) := by decide +kernel
theorem dX16_nearest_51 : decode cX16_nearest 51 = .ok (.iload 4, 2) := by decide +kernel
theorem dX16_nearest_53 : decode cX16_nearest 53 = .ok (.imul, 1) := by decide +kernel
theorem dX16_nearest_54 : decode cX16_nearest 54 = .ok (.aload_n 0, 1) := by decide +kernel
theorem dX16_nearest_55 : decode cX16_nearest 55 = .ok (.getfield 36, 3) := by decide +kernel
theorem dX16_nearest_58 : decode cX16_nearest 58 = .ok (.iconst 5, 1) := by decide +kernel
theorem dX16_nearest_59 : decode cX16_nearest 59 = .ok (.iload_n 2, 1) := by decide +kernel
theorem dX16_nearest_60 : decode cX16_nearest 60 = .ok (.imul, 1) := by decide +kernel
theorem dX16_nearest_61 : decode cX16_nearest 61 = .ok (.aload_n 0, 1) := by decide +kernel
theorem dX16_nearest_62 : decode cX16_nearest 62 = .ok (.getfield 22, 3) := by decide +kernel
theorem dX16_nearest_65 : decode cX16_nearest 65 = .ok (.iconst 0, 1) := by decide +kernel
theorem dX16_nearest_66 : decode cX16_nearest 66 = .ok (.invokestatic 540, 3) := by decide +kernel
theorem dX16_nearest_69 : decode cX16_nearest 69 = .ok (.ifCond .eq 7, 3) := by decide +kernel
theorem dX16_nearest_72 : decode cX16_nearest 72 = .ok (.iconst 1, 1) := by decide +kernel
theorem dX16_nearest_73 : decode cX16_nearest 73 = .ok (.goto 4, 3) := by decide +kernel
theorem dX16_nearest_76 : decode cX16_nearest 76 = .ok (.iconst 0, 1) := by decide +kernel
theorem dX16_nearest_77 : decode cX16_nearest 77 = .ok (.iadd, 1) := by decide +kernel
theorem dX16_nearest_78 : decode cX16_nearest 78 = .ok (.istore_n 3, 1) := by decide +kernel
theorem dX16_nearest_79 : decode cX16_nearest 79 = .ok (.iinc 4 1, 3) := by decide +kernel
theorem dX16_nearest_82 : decode cX16_nearest 82 = .ok (.goto (-63), 3) := by decide +kernel
theorem dX16_nearest_85 : decode cX16_nearest 85 = .ok (.aload_n 0, 1) := by decide +kernel
theorem dX16_nearest_86 : decode cX16_nearest 86 = .ok (.getfield 42, 3) := by decide +kernel
theorem dX16_nearest_89 : decode cX16_nearest 89 = .ok (.iload_n 2, 1) := by decide +kernel
theorem dX16_nearest_90 : decode cX16_nearest 90 = .ok (.iaload, 1) := by decide +kernel
theorem dX16_nearest_91 : decode cX16_nearest 91 = .ok (.iconst 1, 1) := by decide +kernel
theorem dX16_nearest_92 : decode cX16_nearest 92 = .ok (.if_icmp .ne 10, 3) := by decide +kernel
theorem dX16_nearest_95 : decode cX16_nearest 95 = .ok (.iload_n 3, 1) := by decide +kernel
theorem dX16_nearest_96 : decode cX16_nearest 96 = .ok (.iload_n 1, 1) := by decide +kernel
theorem dX16_nearest_97 : decode cX16_nearest 97 = .ok (.if_icmp .ne 5, 3) := by decide +kernel
theorem dX16_nearest_100 : decode cX16_nearest 100 = .ok (.iload_n 2, 1) := by decide +kernel
theorem dX16_nearest_101 : decode cX16_nearest 101 = .ok (.ireturn, 1) := by decide +kernel
theorem dX16_nearest_102 : decode cX16_nearest 102 = .ok (.iinc 2 1, 3) := by decide +kernel
theorem dX16_nearest_105 : decode cX16_nearest 105 = .ok (.goto (-99), 3) := by decide +kernel
theorem dX16_nearest_108 : decode cX16_nearest 108 = .ok (.iconst (-1), 1) := by decide +kernel
theorem dX16_nearest_109 : decode cX16_nearest 109 = .ok (.ireturn, 1) := by decide +kernel
def j_X16_nearest_102 (x1 x2 : Int) (V : VV) : Option ((Int) ⊕ (Int × VV)) :=
  cnt (x2 + 1)
def j_X16_nearest_85 (x1 x2 x3 : Int) (V : VV) : Option ((Int) ⊕ (Int × VV)) :=
  (l2 167 32 x2 V).bind fun v1 =>
  if w32 v1 = w32 1 then
    if w32 x3 = w32 x1 then
      xit (some (x2, V))
    else
      j_X16_nearest_102 x1 x2 V
  else
    j_X16_nearest_102 x1 x2 V
def j_X16_nearest_77 (x1 x2 x4 y0 y1 : Int) (V : VV) : Option ((Int × Int) ⊕ ((Int) ⊕ (Int × VV))) :=
  cnt (y0 + y1, x4 + 1)
def j_X16_nearest_76 (x1 x2 x4 y0 : Int) (V : VV) : Option ((Int × Int) ⊕ ((Int) ⊕ (Int × VV))) :=
  j_X16_nearest_77 x1 x2 x4 y0 0 V
def b_X16_nearest_19 (x1 x2 x3 x4 : Int) (V : VV) : Option ((Int × Int) ⊕ ((Int) ⊕ (Int × VV))) :=
  if w32 x4 < w32 (w32 (V 156 13)) then
    if w32 x4 = w32 x2 then
      j_X16_nearest_76 x1 x2 x4 x3 V
    else
      (l2 167 32 x4 V).bind fun v1 =>
      if w32 v1 = w32 1 then
        (f_X16_nearer 165 (5 * x4) 165 (5 * x2) 161 0 V).bind fun v2 =>
        if w32 v2 = 0 then
          j_X16_nearest_76 x1 x2 x4 x3 V
        else
          j_X16_nearest_77 x1 x2 x4 x3 1 V
      else
        j_X16_nearest_76 x1 x2 x4 x3 V
  else
    xit (j_X16_nearest_85 x1 x2 x3 V)
def l_X16_nearest_19 (x1 x2 x3 x4 : Int) (V : VV) : Option ((Int) ⊕ (Int × VV)) := lpN (fun s : Int × Int => b_X16_nearest_19 x1 x2 s.1 s.2 V) FU (x3, x4)
def b_X16_nearest_6 (x1 x2 : Int) (V : VV) : Option ((Int) ⊕ (Int × VV)) :=
  if w32 x2 < w32 (w32 (V 156 13)) then
    l_X16_nearest_19 x1 x2 0 0 V
  else
    xit (some ((-1), V))
def l_X16_nearest_6 (x1 x2 : Int) (V : VV) : Option (Int × VV) := lpN (fun s : Int => b_X16_nearest_6 x1 s V) FU x2
def f_X16_nearest (x1 : Int) (V : VV) : Option (Int × VV) :=
  (f_X16_hashTape V).bind fun V1 =>
  l_X16_nearest_6 x1 0 V1
theorem s_X16_nearest_102 {g : GG} {d : Nat} (hD : 4 ≤ d) {x1 x2 : Int} {M : MM} (hM : LM M) {V : VV} {o : AV × MM} {P : ((Int) ⊕ (Int × VV)) → Prop} (c0 : ∀ s : Int, P (.inl s) → Sem g d YX16_nearest 6 [(1, 156), (0, x1), (0, s), (9, 0), (9, 0)] [] (wr M V) o) (r0 : ∀ r : Int × VV, P (.inr r) → o = ((0, r.1), (wr M r.2))) {z : (Int) ⊕ (Int × VV)} (h : j_X16_nearest_102 x1 x2 V = some z) (hz : P z) : Sem g d YX16_nearest 102 [(1, 156), (0, x1), (0, x2), (9, 0), (9, 0)] [] (wr M V) o := by
  delta j_X16_nearest_102 at h
  refine S_iinc dX16_nearest_102 rfl rfl rfl ?_
  change Sem g d YX16_nearest 105 [(1, 156), (0, x1), (0, x2 + 1), (9, 0), (9, 0)] [] (wr M V) o
  refine S_goto (tgt := 6) dX16_nearest_105 rfl ?_
  exact c0 (x2 + 1) (some_P (P := fun r => P r) h hz)
theorem s_X16_nearest_85 {g : GG} {d : Nat} (hD : 4 ≤ d) {x1 x2 x3 : Int} {M : MM} (hM : LM M) {V : VV} {o : AV × MM} {P : ((Int) ⊕ (Int × VV)) → Prop} (c0 : ∀ s : Int, P (.inl s) → Sem g d YX16_nearest 6 [(1, 156), (0, x1), (0, s), (9, 0), (9, 0)] [] (wr M V) o) (r0 : ∀ r : Int × VV, P (.inr r) → o = ((0, r.1), (wr M r.2))) {z : (Int) ⊕ (Int × VV)} (h : j_X16_nearest_85 x1 x2 x3 V = some z) (hz : P z) : Sem g d YX16_nearest 85 [(1, 156), (0, x1), (0, x2), (0, x3), (9, 0)] [] (wr M V) o := by
  delta j_X16_nearest_85 at h
  refine S_aload_n (i := 0) dX16_nearest_85 rfl rfl ?_
  refine P2_gfr hM (a := 167) FLX16_42 rfl ⟨rfl, rfl⟩ dX16_nearest_86 ?_
  refine S_iload_n (i := 2) dX16_nearest_89 rfl rfl ?_
  refine P2_lai hM (a := 167) (n := 32) rfl dX16_nearest_90 h (fun v1 h => ?_)
  refine S_iconst dX16_nearest_91 rfl ?_
  refine P_icmp_ne (tgt := 102) dX16_nearest_92 rfl h (fun h => ?_) (fun h => ?_)
  · refine S_weak (ls' := [(1, 156), (0, x1), (0, x2), (9, 0), (9, 0)]) ⟨Or.inr rfl, ⟨Or.inr rfl, ⟨Or.inr rfl, ⟨Or.inl rfl, ⟨Or.inl rfl, trivial⟩⟩⟩⟩⟩ ?_
    exact s_X16_nearest_102 hD hM c0 r0 h hz
  · refine S_iload_n (i := 3) dX16_nearest_95 rfl rfl ?_
    refine S_iload_n (i := 1) dX16_nearest_96 rfl rfl ?_
    refine P_icmp_ne (tgt := 102) dX16_nearest_97 rfl h (fun h => ?_) (fun h => ?_)
    · refine S_weak (ls' := [(1, 156), (0, x1), (0, x2), (9, 0), (9, 0)]) ⟨Or.inr rfl, ⟨Or.inr rfl, ⟨Or.inr rfl, ⟨Or.inl rfl, ⟨Or.inl rfl, trivial⟩⟩⟩⟩⟩ ?_
      exact s_X16_nearest_102 hD hM c0 r0 h hz
    · obtain ⟨z0, h, hz⟩ := xit_some' (P := fun r => P r) h hz
      refine S_iload_n (i := 2) dX16_nearest_100 rfl rfl ?_
      obtain rfl := r0 _ (some_P (P := fun r => P (.inr r)) h hz)
      exact P_ret dX16_nearest_101 rfl (Or.inl rfl)
theorem s_X16_nearest_77 {g : GG} {d : Nat} (hD : 4 ≤ d) {x1 x2 x4 y0 y1 : Int} {M : MM} (hM : LM M) {V : VV} {o : AV × MM} {P : ((Int × Int) ⊕ ((Int) ⊕ (Int × VV))) → Prop} (c1 : ∀ s : Int × Int, P (.inl s) → Sem g d YX16_nearest 19 [(1, 156), (0, x1), (0, x2), (0, s.1), (0, s.2)] [] (wr M V) o) (c0 : ∀ s : Int, P (.inr (.inl s)) → Sem g d YX16_nearest 6 [(1, 156), (0, x1), (0, s), (9, 0), (9, 0)] [] (wr M V) o) (r0 : ∀ r : Int × VV, P (.inr (.inr r)) → o = ((0, r.1), (wr M r.2))) {z : (Int × Int) ⊕ ((Int) ⊕ (Int × VV))} (h : j_X16_nearest_77 x1 x2 x4 y0 y1 V = some z) (hz : P z) : Sem g d YX16_nearest 77 [(1, 156), (0, x1), (0, x2), (9, 0), (0, x4)] [(0, y1), (0, y0)] (wr M V) o := by
  delta j_X16_nearest_77 at h
  refine S_iadd dX16_nearest_77 ?_
  refine S_istore_n (i := 3) dX16_nearest_78 rfl (Nat.le_of_ble_eq_true rfl) rfl rfl ?_
  change Sem g d YX16_nearest 79 [(1, 156), (0, x1), (0, x2), (0, y0 + y1), (0, x4)] [] (wr M V) o
  refine S_iinc dX16_nearest_79 rfl rfl rfl ?_
  change Sem g d YX16_nearest 82 [(1, 156), (0, x1), (0, x2), (0, y0 + y1), (0, x4 + 1)] [] (wr M V) o
  refine S_goto (tgt := 19) dX16_nearest_82 rfl ?_
  exact c1 (y0 + y1, x4 + 1) (some_P (P := fun r => P r) h hz)
theorem s_X16_nearest_76 {g : GG} {d : Nat} (hD : 4 ≤ d) {x1 x2 x4 y0 : Int} {M : MM} (hM : LM M) {V : VV} {o : AV × MM} {P : ((Int × Int) ⊕ ((Int) ⊕ (Int × VV))) → Prop} (c1 : ∀ s : Int × Int, P (.inl s) → Sem g d YX16_nearest 19 [(1, 156), (0, x1), (0, x2), (0, s.1), (0, s.2)] [] (wr M V) o) (c0 : ∀ s : Int, P (.inr (.inl s)) → Sem g d YX16_nearest 6 [(1, 156), (0, x1), (0, s), (9, 0), (9, 0)] [] (wr M V) o) (r0 : ∀ r : Int × VV, P (.inr (.inr r)) → o = ((0, r.1), (wr M r.2))) {z : (Int × Int) ⊕ ((Int) ⊕ (Int × VV))} (h : j_X16_nearest_76 x1 x2 x4 y0 V = some z) (hz : P z) : Sem g d YX16_nearest 76 [(1, 156), (0, x1), (0, x2), (9, 0), (0, x4)] [(0, y0)] (wr M V) o := by
  delta j_X16_nearest_76 at h
  refine S_iconst dX16_nearest_76 rfl ?_
  exact s_X16_nearest_77 hD hM c1 c0 r0 h hz
theorem s_X16_nearest_19 {g : GG} {d : Nat} (hD : 4 ≤ d) {x1 x2 x3 x4 : Int} {M : MM} (hM : LM M) {V : VV} {o : AV × MM} {P : ((Int × Int) ⊕ ((Int) ⊕ (Int × VV))) → Prop} (c1 : ∀ s : Int × Int, P (.inl s) → Sem g d YX16_nearest 19 [(1, 156), (0, x1), (0, x2), (0, s.1), (0, s.2)] [] (wr M V) o) (c0 : ∀ s : Int, P (.inr (.inl s)) → Sem g d YX16_nearest 6 [(1, 156), (0, x1), (0, s), (9, 0), (9, 0)] [] (wr M V) o) (r0 : ∀ r : Int × VV, P (.inr (.inr r)) → o = ((0, r.1), (wr M r.2))) {z : (Int × Int) ⊕ ((Int) ⊕ (Int × VV))} (h : b_X16_nearest_19 x1 x2 x3 x4 V = some z) (hz : P z) : Sem g d YX16_nearest 19 [(1, 156), (0, x1), (0, x2), (0, x3), (0, x4)] [] (wr M V) o := by
  delta b_X16_nearest_19 at h
  refine S_iload dX16_nearest_19 rfl ?_
  refine S_aload_n (i := 0) dX16_nearest_21 rfl rfl ?_
  refine P2_gfi hM FLX16_424 rfl dX16_nearest_22 ?_
  refine P_icmp_ge (tgt := 85) dX16_nearest_25 rfl h (fun h => ?_) (fun h => ?_)
  · refine S_weak (ls' := [(1, 156), (0, x1), (0, x2), (0, x3), (9, 0)]) ⟨Or.inr rfl, ⟨Or.inr rfl, ⟨Or.inr rfl, ⟨Or.inr rfl, ⟨Or.inl rfl, trivial⟩⟩⟩⟩⟩ ?_
    obtain ⟨z0, h, hz⟩ := xit_some' (P := fun r => P r) h hz
    exact s_X16_nearest_85 hD hM (P := fun r => P (.inr r)) c0 r0 h hz
  · refine S_iload_n (i := 3) dX16_nearest_28 rfl rfl ?_
    refine S_iload dX16_nearest_29 rfl ?_
    refine S_iload_n (i := 2) dX16_nearest_31 rfl rfl ?_
    refine P_icmp_eq (tgt := 76) dX16_nearest_32 rfl h (fun h => ?_) (fun h => ?_)
    · refine S_weak (ls' := [(1, 156), (0, x1), (0, x2), (9, 0), (0, x4)]) ⟨Or.inr rfl, ⟨Or.inr rfl, ⟨Or.inr rfl, ⟨Or.inl rfl, ⟨Or.inr rfl, trivial⟩⟩⟩⟩⟩ ?_
      exact s_X16_nearest_76 hD hM c1 c0 r0 h hz
    · refine S_aload_n (i := 0) dX16_nearest_35 rfl rfl ?_
      refine P2_gfr hM (a := 167) FLX16_42 rfl ⟨rfl, rfl⟩ dX16_nearest_36 ?_
      refine S_iload dX16_nearest_39 rfl ?_
      refine P2_lai hM (a := 167) (n := 32) rfl dX16_nearest_41 h (fun v1 h => ?_)
      refine S_iconst dX16_nearest_42 rfl ?_
      refine P_icmp_ne (tgt := 76) dX16_nearest_43 rfl h (fun h => ?_) (fun h => ?_)
      · refine S_weak (ls' := [(1, 156), (0, x1), (0, x2), (9, 0), (0, x4)]) ⟨Or.inr rfl, ⟨Or.inr rfl, ⟨Or.inr rfl, ⟨Or.inl rfl, ⟨Or.inr rfl, trivial⟩⟩⟩⟩⟩ ?_
        exact s_X16_nearest_76 hD hM c1 c0 r0 h hz
      · refine S_aload_n (i := 0) dX16_nearest_46 rfl rfl ?_
        refine P2_gfr hM (a := 165) FLX16_36 rfl ⟨rfl, rfl⟩ dX16_nearest_47 ?_
        refine S_iconst dX16_nearest_50 rfl ?_
        refine S_iload dX16_nearest_51 rfl ?_
        refine S_imul dX16_nearest_53 ?_
        refine S_aload_n (i := 0) dX16_nearest_54 rfl rfl ?_
        refine P2_gfr hM (a := 165) FLX16_36 rfl ⟨rfl, rfl⟩ dX16_nearest_55 ?_
        refine S_iconst dX16_nearest_58 rfl ?_
        refine S_iload_n (i := 2) dX16_nearest_59 rfl rfl ?_
        refine S_imul dX16_nearest_60 ?_
        refine S_aload_n (i := 0) dX16_nearest_61 rfl rfl ?_
        refine P2_gfr hM (a := 161) FLX16_22 rfl ⟨rfl, rfl⟩ dX16_nearest_62 ?_
        refine S_iconst dX16_nearest_65 rfl ?_
        refine P_invSp 0 [(1, 165), (0, 5 * x4), (1, 165), (0, 5 * x2), (1, 161), (0, 0)] [(0, x3)] CSX16_nearer MLX16_540 dX16_nearest_66 rfl rfl rfl rfl rfl (by omega) h (fun r h => F_X16_nearer (by omega) hM h) (fun v2 h => ?_)
        refine P_if_eq (tgt := 76) dX16_nearest_69 rfl h (fun h => ?_) (fun h => ?_)
        · refine S_weak (ls' := [(1, 156), (0, x1), (0, x2), (9, 0), (0, x4)]) ⟨Or.inr rfl, ⟨Or.inr rfl, ⟨Or.inr rfl, ⟨Or.inl rfl, ⟨Or.inr rfl, trivial⟩⟩⟩⟩⟩ ?_
          exact s_X16_nearest_76 hD hM c1 c0 r0 h hz
        · refine S_iconst dX16_nearest_72 rfl ?_
          refine S_goto (tgt := 77) dX16_nearest_73 rfl ?_
          refine S_weak (ls' := [(1, 156), (0, x1), (0, x2), (9, 0), (0, x4)]) ⟨Or.inr rfl, ⟨Or.inr rfl, ⟨Or.inr rfl, ⟨Or.inl rfl, ⟨Or.inr rfl, trivial⟩⟩⟩⟩⟩ ?_
          exact s_X16_nearest_77 hD hM c1 c0 r0 h hz
theorem sl_X16_nearest_19 {g : GG} {d : Nat} (hD : 4 ≤ d) {x1 x2 x3 x4 : Int} {M : MM} (hM : LM M) {V : VV} {o : AV × MM} {P : ((Int) ⊕ (Int × VV)) → Prop} (c0 : ∀ s : Int, P (.inl s) → Sem g d YX16_nearest 6 [(1, 156), (0, x1), (0, s), (9, 0), (9, 0)] [] (wr M V) o) (r0 : ∀ r : Int × VV, P (.inr r) → o = ((0, r.1), (wr M r.2))) {z : (Int) ⊕ (Int × VV)} (h : l_X16_nearest_19 x1 x2 x3 x4 V = some z) (hz : P z) : Sem g d YX16_nearest 19 [(1, 156), (0, x1), (0, x2), (0, x3), (0, x4)] [] (wr M V) o := by
  refine lp_sound (S := fun s : Int × Int => Sem g d YX16_nearest 19 [(1, 156), (0, x1), (0, x2), (0, s.1), (0, s.2)] [] (wr M V) o) (P := P) ?_ FU (x3, x4) z h hz
  intro s x hx hP
  exact s_X16_nearest_19 hD hM (P := Sum.elim (fun s : Int × Int => Sem g d YX16_nearest 19 [(1, 156), (0, x1), (0, x2), (0, s.1), (0, s.2)] [] (wr M V) o) P) (fun s h => h) (fun s h => c0 s h) (fun s h => r0 s h) hx hP
theorem s_X16_nearest_6 {g : GG} {d : Nat} (hD : 4 ≤ d) {x1 x2 : Int} {M : MM} (hM : LM M) {V : VV} {o : AV × MM} {P : ((Int) ⊕ (Int × VV)) → Prop} (c0 : ∀ s : Int, P (.inl s) → Sem g d YX16_nearest 6 [(1, 156), (0, x1), (0, s), (9, 0), (9, 0)] [] (wr M V) o) (r0 : ∀ r : Int × VV, P (.inr r) → o = ((0, r.1), (wr M r.2))) {z : (Int) ⊕ (Int × VV)} (h : b_X16_nearest_6 x1 x2 V = some z) (hz : P z) : Sem g d YX16_nearest 6 [(1, 156), (0, x1), (0, x2), (9, 0), (9, 0)] [] (wr M V) o := by
  delta b_X16_nearest_6 at h
  refine S_iload_n (i := 2) dX16_nearest_6 rfl rfl ?_
  refine S_aload_n (i := 0) dX16_nearest_7 rfl rfl ?_
  refine P2_gfi hM FLX16_424 rfl dX16_nearest_8 ?_
  refine P_icmp_ge (tgt := 108) dX16_nearest_11 rfl h (fun h => ?_) (fun h => ?_)
  · obtain ⟨z0, h, hz⟩ := xit_some' (P := fun r => P r) h hz
    refine S_iconst dX16_nearest_108 rfl ?_
    obtain rfl := r0 _ (some_P (P := fun r => P (.inr r)) h hz)
    exact P_ret dX16_nearest_109 rfl (Or.inl rfl)
  · refine S_iconst dX16_nearest_14 rfl ?_
    refine S_istore_n (i := 3) dX16_nearest_15 rfl (Nat.le_of_ble_eq_true rfl) rfl rfl ?_
    change Sem g d YX16_nearest 16 [(1, 156), (0, x1), (0, x2), (0, 0), (9, 0)] [] (wr M V) o
    refine S_iconst dX16_nearest_16 rfl ?_
    refine S_istore dX16_nearest_17 (Nat.le_of_ble_eq_true rfl) rfl rfl ?_
    change Sem g d YX16_nearest 19 [(1, 156), (0, x1), (0, x2), (0, 0), (0, 0)] [] (wr M V) o
    exact sl_X16_nearest_19 hD hM c0 r0 h hz
theorem sl_X16_nearest_6 {g : GG} {d : Nat} (hD : 4 ≤ d) {x1 x2 : Int} {M : MM} (hM : LM M) {V : VV} {o : AV × MM} {P : (Int × VV) → Prop} (r0 : ∀ r : Int × VV, P r → o = ((0, r.1), (wr M r.2))) {z : Int × VV} (h : l_X16_nearest_6 x1 x2 V = some z) (hz : P z) : Sem g d YX16_nearest 6 [(1, 156), (0, x1), (0, x2), (9, 0), (9, 0)] [] (wr M V) o := by
  refine lp_sound (S := fun s : Int => Sem g d YX16_nearest 6 [(1, 156), (0, x1), (0, s), (9, 0), (9, 0)] [] (wr M V) o) (P := P) ?_ FU x2 z h hz
  intro s x hx hP
  exact s_X16_nearest_6 hD hM (P := Sum.elim (fun s : Int => Sem g d YX16_nearest 6 [(1, 156), (0, x1), (0, s), (9, 0), (9, 0)] [] (wr M V) o) P) (fun s h => h) (fun s h => r0 s h) hx hP
theorem s_X16_nearest_0 {g : GG} {d : Nat} (hD : 4 ≤ d) {x1 : Int} {M : MM} (hM : LM M) {V : VV} {o : AV × MM} {P : (Int × VV) → Prop} (r0 : ∀ r : Int × VV, P r → o = ((0, r.1), (wr M r.2))) {z : Int × VV} (h : f_X16_nearest x1 V = some z) (hz : P z) : Sem g d YX16_nearest 0 [(1, 156), (0, x1), (9, 0), (9, 0), (9, 0)] [] (wr M V) o := by
  delta f_X16_nearest at h
  refine S_aload_n (i := 0) dX16_nearest_0 rfl rfl ?_
  refine P2_invVm hM [] [] CVX16_hashTape MLX16_431 dX16_nearest_1 rfl rfl rfl rfl (by omega) h (fun r h => F_X16_hashTape (by omega) hM h) (fun V1 h => ?_)
  refine S_iconst dX16_nearest_4 rfl ?_
  refine S_istore_n (i := 2) dX16_nearest_5 rfl (Nat.le_of_ble_eq_true rfl) rfl rfl ?_
  change Sem g d YX16_nearest 6 [(1, 156), (0, x1), (0, 0), (9, 0), (9, 0)] [] (wr M V1) o
  exact sl_X16_nearest_6 hD hM r0 h hz
theorem F_X16_nearest {g : GG} {d : Nat} (hD : 4 ≤ d) {x1 : Int} {M : MM} (hM : LM M) {V : VV} {r : Int × VV} (h : f_X16_nearest x1 V = some r) : Sem g d YX16_nearest 0 (ini YX16_nearest [(1, 156), (0, x1)]) [] (wr M V) ((0, r.1), (wr M r.2)) := by
  change Sem g d YX16_nearest 0 [(1, 156), (0, x1), (9, 0), (9, 0), (9, 0)] [] (wr M V) ((0, r.1), (wr M r.2))
  exact s_X16_nearest_0 hD hM (P := fun x => x = r) (fun q e => by rw [e]) h rfl
/-! PeerSearchModel.peer()I -/
theorem dX16_peer_0 : decode cX16_peer 0 = .ok (.aload_n 0, 1) := by decide +kernel
theorem dX16_peer_1 : decode cX16_peer 1 = .ok (.getfield 387, 3) := by decide +kernel
theorem dX16_peer_4 : decode cX16_peer 4 = .ok (.istore_n 1, 1) := by decide +kernel
theorem dX16_peer_5 : decode cX16_peer 5 = .ok (.aload_n 0, 1) := by decide +kernel
theorem dX16_peer_6 : decode cX16_peer 6 = .ok (.invokevirtual 431, 3) := by decide +kernel
theorem dX16_peer_9 : decode cX16_peer 9 = .ok (.aload_n 0, 1) := by decide +kernel
theorem dX16_peer_10 : decode cX16_peer 10 = .ok (.iconst 0, 1) := by decide +kernel
theorem dX16_peer_11 : decode cX16_peer 11 = .ok (.putfield 387, 3) := by decide +kernel
theorem dX16_peer_14 : decode cX16_peer 14 = .ok (.aload_n 0, 1) := by decide +kernel
theorem dX16_peer_15 : decode cX16_peer 15 = .ok (.getfield 424, 3) := by decide +kernel
theorem dX16_peer_18 : decode cX16_peer 18 = .ok (.bipush 32, 2) := by decide +kernel
theorem dX16_peer_20 : decode cX16_peer 20 = .ok (.if_icmp .ge 17, 3) := by decide +kernel
theorem dX16_peer_23 : decode cX16_peer 23 = .ok (.iload_n 1, 1) := by decide +kernel
theorem dX16_peer_24 : decode cX16_peer 24 = .ok (.ifCond .le 13, 3) := by decide +kernel
theorem dX16_peer_27 : decode cX16_peer 27 = .ok (.iload_n 1, 1) := by decide +kernel
theorem dX16_peer_28 : decode cX16_peer 28 = .ok (.bipush 21, 2) := by decide +kernel
theorem dX16_peer_30 : decode cX16_peer 30 = .ok (.if_icmp .ge 7, 3) := by decide +kernel
theorem dX16_peer_33 : decode cX16_peer 33 = .ok (.iconst 1, 1) := by decide +kernel
theorem dX16_peer_34 : decode cX16_peer 34 = .ok (.goto 4, 3) := by decide +kernel
theorem dX16_peer_37 : decode cX16_peer 37 = .ok (.iconst 0, 1) := by decide +kernel
theorem dX16_peer_38 : decode cX16_peer 38 = .ok (.istore_n 2, 1) := by decide +kernel
theorem dX16_peer_39 : decode cX16_peer 39 = .ok (.iconst 0, 1) := by decide +kernel
theorem dX16_peer_40 : decode cX16_peer 40 = .ok (.istore_n 3, 1) := by decide +kernel
theorem dX16_peer_41 : decode cX16_peer 41 = .ok (.iload_n 3, 1) := by decide +kernel
theorem dX16_peer_42 : decode cX16_peer 42 = .ok (.aload_n 0, 1) := by decide +kernel
theorem dX16_peer_43 : decode cX16_peer 43 = .ok (.getfield 424, 3) := by decide +kernel
theorem dX16_peer_46 : decode cX16_peer 46 = .ok (.if_icmp .ge 37, 3) := by decide +kernel
theorem dX16_peer_49 : decode cX16_peer 49 = .ok (.iload_n 2, 1) := by decide +kernel
theorem dX16_peer_50 : decode cX16_peer 50 = .ok (.ifCond .eq 25, 3) := by decide +kernel
theorem dX16_peer_53 : decode cX16_peer 53 = .ok (.aload_n 0, 1) := by decide +kernel
theorem dX16_peer_54 : decode cX16_peer 54 = .ok (.getfield 36, 3) := by decide +kernel
theorem dX16_peer_57 : decode cX16_peer 57 = .ok (.iconst 5, 1) := by decide +kernel
theorem dX16_peer_58 : decode cX16_peer 58 = .ok (.iload_n 3, 1) := by decide +kernel
theorem dX16_peer_59 : decode cX16_peer 59 = .ok (.imul, 1) := by decide +kernel
theorem dX16_peer_60 : decode cX16_peer 60 = .ok (.aload_n 0, 1) := by decide +kernel
theorem dX16_peer_61 : decode cX16_peer 61 = .ok (.getfield 22, 3) := by decide +kernel
theorem dX16_peer_64 : decode cX16_peer 64 = .ok (.iconst 0, 1) := by decide +kernel
theorem dX16_peer_65 : decode cX16_peer 65 = .ok (.invokestatic 434, 3) := by decide +kernel
theorem dX16_peer_68 : decode cX16_peer 68 = .ok (.ifCond .ne 7, 3) := by decide +kernel
theorem dX16_peer_71 : decode cX16_peer 71 = .ok (.iconst 1, 1) := by decide +kernel
theorem dX16_peer_72 : decode cX16_peer 72 = .ok (.goto 4, 3) := by decide +kernel
theorem dX16_peer_75 : decode cX16_peer 75 = .ok (.iconst 0, 1) := by decide +kernel
theorem dX16_peer_76 : decode cX16_peer 76 = .ok (.istore_n 2, 1) := by decide +kernel
theorem dX16_peer_77 : decode cX16_peer 77 = .ok (.iinc 3 1, 3) := by decide +kernel
theorem dX16_peer_80 : decode cX16_peer 80 = .ok (.goto (-39), 3) := by decide +kernel
theorem dX16_peer_83 : decode cX16_peer 83 = .ok (.iload_n 2, 1) := by decide +kernel
theorem dX16_peer_84 : decode cX16_peer 84 = .ok (.ifCond .ne 5, 3) := by decide +kernel
theorem dX16_peer_87 : decode cX16_peer 87 = .ok (.iconst (-1), 1) := by decide +kernel
theorem dX16_peer_88 : decode cX16_peer 88 = .ok (.ireturn, 1) := by decide +kernel
theorem dX16_peer_89 : decode cX16_peer 89 = .ok (.aload_n 0, 1) := by decide +kernel
theorem dX16_peer_90 : decode cX16_peer 90 = .ok (.getfield 36, 3) := by decide +kernel
theorem dX16_peer_93 : decode cX16_peer 93 = .ok (.iconst 5, 1) := by decide +kernel
theorem dX16_peer_94 : decode cX16_peer 94 = .ok (.aload_n 0, 1) := by decide +kernel
theorem dX16_peer_95 : decode cX16_peer 95 = .ok (.getfield 424, 3) := by decide +kernel
theorem dX16_peer_98 : decode cX16_peer 98 = .ok (.imul, 1) := by decide +kernel
theorem dX16_peer_99 : decode cX16_peer 99 = .ok (.aload_n 0, 1) := by decide +kernel
theorem dX16_peer_100 : decode cX16_peer 100 = .ok (.getfield 22, 3) := by decide +kernel
theorem dX16_peer_103 : decode cX16_peer 103 = .ok (.iconst 0, 1) := by decide +kernel
theorem dX16_peer_104 : decode cX16_peer 104 = .ok (.invokestatic 438, 3) := by decide +kernel
theorem dX16_peer_107 : decode cX16_peer 107 = .ok (.aload_n 0, 1) := by decide +kernel
theorem dX16_peer_108 : decode cX16_peer 108 = .ok (.getfield 54, 3) := by decide +kernel
theorem dX16_peer_111 : decode cX16_peer 111 = .ok (.aload_n 0, 1) := by decide +kernel
theorem dX16_peer_112 : decode cX16_peer 112 = .ok (.getfield 424, 3) := by decide +kernel
theorem dX16_peer_115 : decode cX16_peer 115 = .ok (.iconst 1, 1) := by decide +kernel
theorem dX16_peer_116 : decode cX16_peer 116 = .ok (.iastore, 1) := by decide +kernel
theorem dX16_peer_117 : decode cX16_peer 117 = .ok (.aload_n 0, 1) := by decide +kernel
theorem dX16_peer_118 : decode cX16_peer 118 = .ok (.dup, 1) := by decide +kernel
theorem dX16_peer_119 : decode cX16_peer 119 = .ok (.getfield 424, 3) := by decide +kernel
theorem dX16_peer_122 : decode cX16_peer 122 = .ok (.iconst 1, 1) := by decide +kernel
theorem dX16_peer_123 : decode cX16_peer 123 = .ok (.iadd, 1) := by decide +kernel
theorem dX16_peer_124 : decode cX16_peer 124 = .ok (.putfield 424, 3) := by decide +kernel
theorem dX16_peer_127 : decode cX16_peer 127 = .ok (.aload_n 0, 1) := by decide +kernel
theorem dX16_peer_128 : decode cX16_peer 128 = .ok (.getfield 424, 3) := by decide +kernel
theorem dX16_peer_131 : decode cX16_peer 131 = .ok (.iconst 1, 1) := by decide +kernel
theorem dX16_peer_132 : decode cX16_peer 132 = .ok (.isub, 1) := by decide +kernel
theorem dX16_peer_133 : decode cX16_peer 133 = .ok (.ireturn, 1) := by decide +kernel
def j_X16_peer_83 (x2 : Int) (V : VV) : Option (Int × VV) :=
  if w32 x2 = 0 then
    some ((-1), V)
  else
    (f_X16_put 165 (5 * (w32 (V 156 13))) 161 0 V).bind fun V1 =>
    (s2 171 32 (w32 (V1 156 13)) 1 V1).bind fun V2 =>
    (p2 13 ((w32 (V2 156 13)) + 1) V2).bind fun V3 =>
    some ((w32 (V3 156 13)) - 1, V3)
def j_X16_peer_76 (x3 y0 : Int) (V : VV) : Option ((Int × Int) ⊕ (Int × VV)) :=
  cnt (y0, x3 + 1)
def j_X16_peer_75 (x3 : Int) (V : VV) : Option ((Int × Int) ⊕ (Int × VV)) :=
  j_X16_peer_76 x3 0 V
def b_X16_peer_41 (x2 x3 : Int) (V : VV) : Option ((Int × Int) ⊕ (Int × VV)) :=
  if w32 x3 < w32 (w32 (V 156 13)) then
    if w32 x2 = 0 then
      j_X16_peer_75 x3 V
    else
      (f_X16_same 165 (5 * x3) 161 0 V).bind fun v1 =>
      if w32 v1 = 0 then
        j_X16_peer_76 x3 1 V
      else
        j_X16_peer_75 x3 V
  else
    xit (j_X16_peer_83 x2 V)
def l_X16_peer_41 (x2 x3 : Int) (V : VV) : Option (Int × VV) := lpN (fun s : Int × Int => b_X16_peer_41 s.1 s.2 V) FU (x2, x3)
def j_X16_peer_38 (y0 : Int) (V : VV) : Option (Int × VV) :=
  l_X16_peer_41 y0 0 V
def j_X16_peer_37 (V : VV) : Option (Int × VV) :=
  j_X16_peer_38 0 V
def f_X16_peer (V : VV) : Option (Int × VV) :=
  (f_X16_hashTape V).bind fun V1 =>
  (p2 4 0 V1).bind fun V2 =>
  if w32 (w32 (V2 156 13)) < w32 32 then
    if 0 < w32 (w32 (V 156 4)) then
      if w32 (w32 (V 156 4)) < w32 21 then
        j_X16_peer_38 1 V2
      else
        j_X16_peer_37 V2
    else
      j_X16_peer_37 V2
  else
    j_X16_peer_37 V2
theorem s_X16_peer_83 {g : GG} {d : Nat} (hD : 4 ≤ d) {x2 : Int} {M : MM} (hM : LM M) {V : VV} {o : AV × MM} {P : (Int × VV) → Prop} (r0 : ∀ r : Int × VV, P r → o = ((0, r.1), (wr M r.2))) {z : Int × VV} (h : j_X16_peer_83 x2 V = some z) (hz : P z) : Sem g d YX16_peer 83 [(1, 156), (9, 0), (0, x2), (9, 0)] [] (wr M V) o := by
  delta j_X16_peer_83 at h
  refine S_iload_n (i := 2) dX16_peer_83 rfl rfl ?_
  refine P_if_ne (tgt := 89) dX16_peer_84 rfl h (fun h => ?_) (fun h => ?_)
  · refine S_aload_n (i := 0) dX16_peer_89 rfl rfl ?_
    refine P2_gfr hM (a := 165) FLX16_36 rfl ⟨rfl, rfl⟩ dX16_peer_90 ?_
    refine S_iconst dX16_peer_93 rfl ?_
    refine S_aload_n (i := 0) dX16_peer_94 rfl rfl ?_
    refine P2_gfi hM FLX16_424 rfl dX16_peer_95 ?_
    refine S_imul dX16_peer_98 ?_
    refine S_aload_n (i := 0) dX16_peer_99 rfl rfl ?_
    refine P2_gfr hM (a := 161) FLX16_22 rfl ⟨rfl, rfl⟩ dX16_peer_100 ?_
    refine S_iconst dX16_peer_103 rfl ?_
    refine P2_invSm hM [(1, 165), (0, 5 * (w32 (V 156 13))), (1, 161), (0, 0)] [] CSX16_put MLX16_438 dX16_peer_104 rfl rfl rfl rfl (by omega) h (fun r h => F_X16_put (by omega) hM h) (fun V1 h => ?_)
    refine S_aload_n (i := 0) dX16_peer_107 rfl rfl ?_
    refine P2_gfr hM (a := 171) FLX16_54 rfl ⟨rfl, rfl⟩ dX16_peer_108 ?_
    refine S_aload_n (i := 0) dX16_peer_111 rfl rfl ?_
    refine P2_gfi hM FLX16_424 rfl dX16_peer_112 ?_
    refine S_iconst dX16_peer_115 rfl ?_
    refine P2_sai hM (a := 171) (n := 32) rfl dX16_peer_116 h (fun V2 h => ?_)
    refine S_aload_n (i := 0) dX16_peer_117 rfl rfl ?_
    refine S_dup dX16_peer_118 (Nat.le_of_ble_eq_true rfl) ?_
    refine P2_gfi hM FLX16_424 rfl dX16_peer_119 ?_
    refine S_iconst dX16_peer_122 rfl ?_
    refine S_iadd dX16_peer_123 ?_
    refine P2_pfi hM FLX16_424 FPX16_424 rfl dX16_peer_124 h (fun V3 h => ?_)
    refine S_aload_n (i := 0) dX16_peer_127 rfl rfl ?_
    refine P2_gfi hM FLX16_424 rfl dX16_peer_128 ?_
    refine S_iconst dX16_peer_131 rfl ?_
    refine S_isub dX16_peer_132 ?_
    obtain rfl := r0 _ (some_P (P := fun r => P r) h hz)
    exact P_ret dX16_peer_133 rfl (Or.inl rfl)
  · refine S_iconst dX16_peer_87 rfl ?_
    obtain rfl := r0 _ (some_P (P := fun r => P r) h hz)
    exact P_ret dX16_peer_88 rfl (Or.inl rfl)
theorem s_X16_peer_76 {g : GG} {d : Nat} (hD : 4 ≤ d) {x3 y0 : Int} {M : MM} (hM : LM M) {V : VV} {o : AV × MM} {P : ((Int × Int) ⊕ (Int × VV)) → Prop} (c0 : ∀ s : Int × Int, P (.inl s) → Sem g d YX16_peer 41 [(1, 156), (9, 0), (0, s.1), (0, s.2)] [] (wr M V) o) (r0 : ∀ r : Int × VV, P (.inr r) → o = ((0, r.1), (wr M r.2))) {z : (Int × Int) ⊕ (Int × VV)} (h : j_X16_peer_76 x3 y0 V = some z) (hz : P z) : Sem g d YX16_peer 76 [(1, 156), (9, 0), (9, 0), (0, x3)] [(0, y0)] (wr M V) o := by
  delta j_X16_peer_76 at h
  refine S_istore_n (i := 2) dX16_peer_76 rfl (Nat.le_of_ble_eq_true rfl) rfl rfl ?_
  change Sem g d YX16_peer 77 [(1, 156), (9, 0), (0, y0), (0, x3)] [] (wr M V) o
  refine S_iinc dX16_peer_77 rfl rfl rfl ?_
  change Sem g d YX16_peer 80 [(1, 156), (9, 0), (0, y0), (0, x3 + 1)] [] (wr M V) o
  refine S_goto (tgt := 41) dX16_peer_80 rfl ?_
  exact c0 (y0, x3 + 1) (some_P (P := fun r => P r) h hz)
theorem s_X16_peer_75 {g : GG} {d : Nat} (hD : 4 ≤ d) {x3 : Int} {M : MM} (hM : LM M) {V : VV} {o : AV × MM} {P : ((Int × Int) ⊕ (Int × VV)) → Prop} (c0 : ∀ s : Int × Int, P (.inl s) → Sem g d YX16_peer 41 [(1, 156), (9, 0), (0, s.1), (0, s.2)] [] (wr M V) o) (r0 : ∀ r : Int × VV, P (.inr r) → o = ((0, r.1), (wr M r.2))) {z : (Int × Int) ⊕ (Int × VV)} (h : j_X16_peer_75 x3 V = some z) (hz : P z) : Sem g d YX16_peer 75 [(1, 156), (9, 0), (9, 0), (0, x3)] [] (wr M V) o := by
  delta j_X16_peer_75 at h
  refine S_iconst dX16_peer_75 rfl ?_
  exact s_X16_peer_76 hD hM c0 r0 h hz
theorem s_X16_peer_41 {g : GG} {d : Nat} (hD : 4 ≤ d) {x2 x3 : Int} {M : MM} (hM : LM M) {V : VV} {o : AV × MM} {P : ((Int × Int) ⊕ (Int × VV)) → Prop} (c0 : ∀ s : Int × Int, P (.inl s) → Sem g d YX16_peer 41 [(1, 156), (9, 0), (0, s.1), (0, s.2)] [] (wr M V) o) (r0 : ∀ r : Int × VV, P (.inr r) → o = ((0, r.1), (wr M r.2))) {z : (Int × Int) ⊕ (Int × VV)} (h : b_X16_peer_41 x2 x3 V = some z) (hz : P z) : Sem g d YX16_peer 41 [(1, 156), (9, 0), (0, x2), (0, x3)] [] (wr M V) o := by
  delta b_X16_peer_41 at h
  refine S_iload_n (i := 3) dX16_peer_41 rfl rfl ?_
  refine S_aload_n (i := 0) dX16_peer_42 rfl rfl ?_
  refine P2_gfi hM FLX16_424 rfl dX16_peer_43 ?_
  refine P_icmp_ge (tgt := 83) dX16_peer_46 rfl h (fun h => ?_) (fun h => ?_)
  · refine S_weak (ls' := [(1, 156), (9, 0), (0, x2), (9, 0)]) ⟨Or.inr rfl, ⟨Or.inl rfl, ⟨Or.inr rfl, ⟨Or.inl rfl, trivial⟩⟩⟩⟩ ?_
    obtain ⟨z0, h, hz⟩ := xit_some' (P := fun r => P r) h hz
    exact s_X16_peer_83 hD hM (P := fun r => P (.inr r)) r0 h hz
  · refine S_iload_n (i := 2) dX16_peer_49 rfl rfl ?_
    refine P_if_eq (tgt := 75) dX16_peer_50 rfl h (fun h => ?_) (fun h => ?_)
    · refine S_weak (ls' := [(1, 156), (9, 0), (9, 0), (0, x3)]) ⟨Or.inr rfl, ⟨Or.inl rfl, ⟨Or.inl rfl, ⟨Or.inr rfl, trivial⟩⟩⟩⟩ ?_
      exact s_X16_peer_75 hD hM c0 r0 h hz
    · refine S_aload_n (i := 0) dX16_peer_53 rfl rfl ?_
      refine P2_gfr hM (a := 165) FLX16_36 rfl ⟨rfl, rfl⟩ dX16_peer_54 ?_
      refine S_iconst dX16_peer_57 rfl ?_
      refine S_iload_n (i := 3) dX16_peer_58 rfl rfl ?_
      refine S_imul dX16_peer_59 ?_
      refine S_aload_n (i := 0) dX16_peer_60 rfl rfl ?_
      refine P2_gfr hM (a := 161) FLX16_22 rfl ⟨rfl, rfl⟩ dX16_peer_61 ?_
      refine S_iconst dX16_peer_64 rfl ?_
      refine P_invSp 0 [(1, 165), (0, 5 * x3), (1, 161), (0, 0)] [] CSX16_same MLX16_434 dX16_peer_65 rfl rfl rfl rfl rfl (by omega) h (fun r h => F_X16_same (by omega) hM h) (fun v1 h => ?_)
      refine P_if_ne (tgt := 75) dX16_peer_68 rfl h (fun h => ?_) (fun h => ?_)
      · refine S_weak (ls' := [(1, 156), (9, 0), (9, 0), (0, x3)]) ⟨Or.inr rfl, ⟨Or.inl rfl, ⟨Or.inl rfl, ⟨Or.inr rfl, trivial⟩⟩⟩⟩ ?_
        exact s_X16_peer_75 hD hM c0 r0 h hz
      · refine S_iconst dX16_peer_71 rfl ?_
        refine S_goto (tgt := 76) dX16_peer_72 rfl ?_
        refine S_weak (ls' := [(1, 156), (9, 0), (9, 0), (0, x3)]) ⟨Or.inr rfl, ⟨Or.inl rfl, ⟨Or.inl rfl, ⟨Or.inr rfl, trivial⟩⟩⟩⟩ ?_
        exact s_X16_peer_76 hD hM c0 r0 h hz
theorem sl_X16_peer_41 {g : GG} {d : Nat} (hD : 4 ≤ d) {x2 x3 : Int} {M : MM} (hM : LM M) {V : VV} {o : AV × MM} {P : (Int × VV) → Prop} (r0 : ∀ r : Int × VV, P r → o = ((0, r.1), (wr M r.2))) {z : Int × VV} (h : l_X16_peer_41 x2 x3 V = some z) (hz : P z) : Sem g d YX16_peer 41 [(1, 156), (9, 0), (0, x2), (0, x3)] [] (wr M V) o := by
  refine lp_sound (S := fun s : Int × Int => Sem g d YX16_peer 41 [(1, 156), (9, 0), (0, s.1), (0, s.2)] [] (wr M V) o) (P := P) ?_ FU (x2, x3) z h hz
  intro s x hx hP
  exact s_X16_peer_41 hD hM (P := Sum.elim (fun s : Int × Int => Sem g d YX16_peer 41 [(1, 156), (9, 0), (0, s.1), (0, s.2)] [] (wr M V) o) P) (fun s h => h) (fun s h => r0 s h) hx hP
theorem s_X16_peer_38 {g : GG} {d : Nat} (hD : 4 ≤ d) {y0 : Int} {M : MM} (hM : LM M) {V : VV} {o : AV × MM} {P : (Int × VV) → Prop} (r0 : ∀ r : Int × VV, P r → o = ((0, r.1), (wr M r.2))) {z : Int × VV} (h : j_X16_peer_38 y0 V = some z) (hz : P z) : Sem g d YX16_peer 38 [(1, 156), (9, 0), (9, 0), (9, 0)] [(0, y0)] (wr M V) o := by
  delta j_X16_peer_38 at h
  refine S_istore_n (i := 2) dX16_peer_38 rfl (Nat.le_of_ble_eq_true rfl) rfl rfl ?_
  change Sem g d YX16_peer 39 [(1, 156), (9, 0), (0, y0), (9, 0)] [] (wr M V) o
  refine S_iconst dX16_peer_39 rfl ?_
  refine S_istore_n (i := 3) dX16_peer_40 rfl (Nat.le_of_ble_eq_true rfl) rfl rfl ?_
  change Sem g d YX16_peer 41 [(1, 156), (9, 0), (0, y0), (0, 0)] [] (wr M V) o
  exact sl_X16_peer_41 hD hM r0 h hz
theorem s_X16_peer_37 {g : GG} {d : Nat} (hD : 4 ≤ d) {M : MM} (hM : LM M) {V : VV} {o : AV × MM} {P : (Int × VV) → Prop} (r0 : ∀ r : Int × VV, P r → o = ((0, r.1), (wr M r.2))) {z : Int × VV} (h : j_X16_peer_37 V = some z) (hz : P z) : Sem g d YX16_peer 37 [(1, 156), (9, 0), (9, 0), (9, 0)] [] (wr M V) o := by
  delta j_X16_peer_37 at h
  refine S_iconst dX16_peer_37 rfl ?_
  exact s_X16_peer_38 hD hM r0 h hz
theorem s_X16_peer_0 {g : GG} {d : Nat} (hD : 4 ≤ d) {M : MM} (hM : LM M) {V : VV} {o : AV × MM} {P : (Int × VV) → Prop} (r0 : ∀ r : Int × VV, P r → o = ((0, r.1), (wr M r.2))) {z : Int × VV} (h : f_X16_peer V = some z) (hz : P z) : Sem g d YX16_peer 0 [(1, 156), (9, 0), (9, 0), (9, 0)] [] (wr M V) o := by
  delta f_X16_peer at h
  refine S_aload_n (i := 0) dX16_peer_0 rfl rfl ?_
  refine P2_gfi hM FLX16_387 rfl dX16_peer_1 ?_
  refine S_istore_n (i := 1) dX16_peer_4 rfl (Nat.le_of_ble_eq_true rfl) rfl rfl ?_
  change Sem g d YX16_peer 5 [(1, 156), (0, w32 (V 156 4)), (9, 0), (9, 0)] [] (wr M V) o
  refine S_aload_n (i := 0) dX16_peer_5 rfl rfl ?_
  refine P2_invVm hM [] [] CVX16_hashTape MLX16_431 dX16_peer_6 rfl rfl rfl rfl (by omega) h (fun r h => F_X16_hashTape (by omega) hM h) (fun V1 h => ?_)
  refine S_aload_n (i := 0) dX16_peer_9 rfl rfl ?_
  refine S_iconst dX16_peer_10 rfl ?_
  refine P2_pfi hM FLX16_387 FPX16_387 rfl dX16_peer_11 h (fun V2 h => ?_)
  refine S_aload_n (i := 0) dX16_peer_14 rfl rfl ?_
  refine P2_gfi hM FLX16_424 rfl dX16_peer_15 ?_
  refine S_bipush (z := 32) dX16_peer_18 rfl ?_
  refine P_icmp_ge (tgt := 37) dX16_peer_20 rfl h (fun h => ?_) (fun h => ?_)
  · refine S_weak (ls' := [(1, 156), (9, 0), (9, 0), (9, 0)]) ⟨Or.inr rfl, ⟨Or.inl rfl, ⟨Or.inl rfl, ⟨Or.inl rfl, trivial⟩⟩⟩⟩ ?_
    exact s_X16_peer_37 hD hM r0 h hz
  · refine S_iload_n (i := 1) dX16_peer_23 rfl rfl ?_
    refine P_if_le (tgt := 37) dX16_peer_24 rfl h (fun h => ?_) (fun h => ?_)
    · refine S_weak (ls' := [(1, 156), (9, 0), (9, 0), (9, 0)]) ⟨Or.inr rfl, ⟨Or.inl rfl, ⟨Or.inl rfl, ⟨Or.inl rfl, trivial⟩⟩⟩⟩ ?_
      exact s_X16_peer_37 hD hM r0 h hz
    · refine S_iload_n (i := 1) dX16_peer_27 rfl rfl ?_
      refine S_bipush (z := 21) dX16_peer_28 rfl ?_
      refine P_icmp_ge (tgt := 37) dX16_peer_30 rfl h (fun h => ?_) (fun h => ?_)
      · refine S_weak (ls' := [(1, 156), (9, 0), (9, 0), (9, 0)]) ⟨Or.inr rfl, ⟨Or.inl rfl, ⟨Or.inl rfl, ⟨Or.inl rfl, trivial⟩⟩⟩⟩ ?_
        exact s_X16_peer_37 hD hM r0 h hz
      · refine S_iconst dX16_peer_33 rfl ?_
        refine S_goto (tgt := 38) dX16_peer_34 rfl ?_
        refine S_weak (ls' := [(1, 156), (9, 0), (9, 0), (9, 0)]) ⟨Or.inr rfl, ⟨Or.inl rfl, ⟨Or.inl rfl, ⟨Or.inl rfl, trivial⟩⟩⟩⟩ ?_
        exact s_X16_peer_38 hD hM r0 h hz
theorem F_X16_peer {g : GG} {d : Nat} (hD : 4 ≤ d) {M : MM} (hM : LM M) {V : VV} {r : Int × VV} (h : f_X16_peer V = some r) : Sem g d YX16_peer 0 (ini YX16_peer [(1, 156)]) [] (wr M V) ((0, r.1), (wr M r.2)) := by
  change Sem g d YX16_peer 0 [(1, 156), (9, 0), (9, 0), (9, 0)] [] (wr M V) ((0, r.1), (wr M r.2))
  exact s_X16_peer_0 hD hM (P := fun x => x = r) (fun q e => by rw [e]) h rfl
/-! PeerSearchModel.below([II[II)Z -/
theorem dX16_below_0 : decode cX16_below 0 = .ok (.iconst 0, 1) := by decide +kernel
theorem dX16_below_1 : decode cX16_below 1 = .ok (.istore 4, 2) := by decide +kernel
theorem dX16_below_3 : decode cX16_below 3 = .ok (.iload 4, 2) := by decide +kernel
theorem dX16_below_5 : decode cX16_below 5 = .ok (.iconst 5, 1) := by decide +kernel
theorem dX16_below_6 : decode cX16_below 6 = .ok (.if_icmp .ge 42, 3) := by decide +kernel
theorem dX16_below_9 : decode cX16_below 9 = .ok (.aload_n 0, 1) := by decide +kernel
theorem dX16_below_10 : decode cX16_below 10 = .ok (.iload_n 1, 1) := by decide +kernel
theorem dX16_below_11 : decode cX16_below 11 = .ok (.iload 4, 2) := by decide +kernel
theorem dX16_below_13 : decode cX16_below 13 = .ok (.iadd, 1) := by decide +kernel
theorem dX16_below_14 : decode cX16_below 14 = .ok (.iaload, 1) := by decide +kernel
theorem dX16_below_15 : decode cX16_below 15 = .ok (.aload_n 2, 1) := by decide +kernel
theorem dX16_below_16 : decode cX16_below 16 = .ok (.iload_n 3, 1) := by decide +kernel
theorem dX16_below_17 : decode cX16_below 17 = .ok (.iload 4, 2) := by decide +kernel
theorem dX16_below_19 : decode cX16_below 19 = .ok (.iadd, 1) := by decide +kernel
theorem dX16_below_20 : decode cX16_below 20 = .ok (.iaload, 1) := by decide +kernel
theorem dX16_below_21 : decode cX16_below 21 = .ok (.invokestatic 416, 3) := by decide +kernel
theorem dX16_below_24 : decode cX16_below 24 = .ok (.istore 5, 2) := by decide +kernel
theorem dX16_below_26 : decode cX16_below 26 = .ok (.iload 5, 2) := by decide +kernel
theorem dX16_below_28 : decode cX16_below 28 = .ok (.ifCond .eq 14, 3) := by decide +kernel
theorem dX16_below_31 : decode cX16_below 31 = .ok (.iload 5, 2) := by decide +kernel
theorem dX16_below_33 : decode cX16_below 33 = .ok (.ifCond .ge 7, 3) := by decide +kernel
theorem dX16_below_36 : decode cX16_below 36 = .ok (.iconst 1, 1) := by decide +kernel
theorem dX16_below_37 : decode cX16_below 37 = .ok (.goto 4, 3) := by decide +kernel
theorem dX16_below_40 : decode cX16_below 40 = .ok (.iconst 0, 1) := by decide +kernel
theorem dX16_below_41 : decode cX16_below 41 = .ok (.ireturn, 1) := by decide +kernel
theorem dX16_below_42 : decode cX16_below 42 = .ok (.iinc 4 1, 3) := by decide +kernel
theorem dX16_below_45 : decode cX16_below 45 = .ok (.goto (-42), 3) := by decide +kernel
theorem dX16_below_48 : decode cX16_below 48 = .ok (.iconst 0, 1) := by decide +kernel
theorem dX16_below_49 : decode cX16_below 49 = .ok (.ireturn, 1) := by decide +kernel
def j_X16_below_41 (y0 : Int) (V : VV) : Option (Int) :=
  bz y0 (some y0)
def j_X16_below_31 (x5 : Int) (V : VV) : Option (Int) :=
  if w32 x5 < 0 then
    j_X16_below_41 1 V
  else
    j_X16_below_41 0 V
def b_X16_below_3 (x0 x1 x2 x3 x4 : Int) (V : VV) : Option ((Int) ⊕ (Int)) :=
  if w32 x4 < w32 5 then
    (lp x0 (x1 + x4) V).bind fun v1 =>
    (lp x2 (x3 + x4) V).bind fun v2 =>
    (f_X16_order v1 v2).bind fun v3 =>
    if w32 v3 = 0 then
      cnt (x4 + 1)
    else
      xit (j_X16_below_31 v3 V)
  else
    xit (some 0)
def l_X16_below_3 (x0 x1 x2 x3 x4 : Int) (V : VV) : Option (Int) := lpN (fun s : Int => b_X16_below_3 x0 x1 x2 x3 s V) FU x4
def f_X16_below (x0 x1 x2 x3 : Int) (V : VV) : Option (Int) :=
  l_X16_below_3 x0 x1 x2 x3 0 V
theorem s_X16_below_41 {g : GG} {d : Nat} (hD : 2 ≤ d) {y0 : Int} {M : MM} (hM : LM M) {V : VV} {o : AV × MM} {P : (Int) → Prop} (r0 : ∀ r : Int, P r → o = ((0, r), (wr M V))) {z : Int} (h : j_X16_below_41 y0 V = some z) (hz : P z) : Sem g d YX16_below 41 [(9, 0), (9, 0), (9, 0), (9, 0), (9, 0), (9, 0)] [(0, y0)] (wr M V) o := by
  delta j_X16_below_41 at h
  obtain ⟨hb, h⟩ := bz_some h
  obtain rfl := r0 _ (some_P (P := fun r => P r) h hz)
  exact P_ret dX16_below_41 rfl (Or.inr ⟨rfl, hb⟩)
theorem s_X16_below_31 {g : GG} {d : Nat} (hD : 2 ≤ d) {x5 : Int} {M : MM} (hM : LM M) {V : VV} {o : AV × MM} {P : (Int) → Prop} (r0 : ∀ r : Int, P r → o = ((0, r), (wr M V))) {z : Int} (h : j_X16_below_31 x5 V = some z) (hz : P z) : Sem g d YX16_below 31 [(9, 0), (9, 0), (9, 0), (9, 0), (9, 0), (0, x5)] [] (wr M V) o := by
  delta j_X16_below_31 at h
  refine S_iload dX16_below_31 rfl ?_
  refine P_if_ge (tgt := 40) dX16_below_33 rfl h (fun h => ?_) (fun h => ?_)
  · refine S_iconst dX16_below_40 rfl ?_
    refine S_weak (ls' := [(9, 0), (9, 0), (9, 0), (9, 0), (9, 0), (9, 0)]) ⟨Or.inl rfl, ⟨Or.inl rfl, ⟨Or.inl rfl, ⟨Or.inl rfl, ⟨Or.inl rfl, ⟨Or.inl rfl, trivial⟩⟩⟩⟩⟩⟩ ?_
    exact s_X16_below_41 hD hM r0 h hz
  · refine S_iconst dX16_below_36 rfl ?_
    refine S_goto (tgt := 41) dX16_below_37 rfl ?_
    refine S_weak (ls' := [(9, 0), (9, 0), (9, 0), (9, 0), (9, 0), (9, 0)]) ⟨Or.inl rfl, ⟨Or.inl rfl, ⟨Or.inl rfl, ⟨Or.inl rfl, ⟨Or.inl rfl, ⟨Or.inl rfl, trivial⟩⟩⟩⟩⟩⟩ ?_
    exact s_X16_below_41 hD hM r0 h hz
theorem s_X16_below_3 {g : GG} {d : Nat} (hD : 2 ≤ d) {x0 x1 x2 x3 x4 : Int} {M : MM} (hM : LM M) {V : VV} {o : AV × MM} {P : ((Int) ⊕ (Int)) → Prop} (c0 : ∀ s : Int, P (.inl s) → Sem g d YX16_below 3 [(1, x0), (0, x1), (1, x2), (0, x3), (0, s), (9, 0)] [] (wr M V) o) (r0 : ∀ r : Int, P (.inr r) → o = ((0, r), (wr M V))) {z : (Int) ⊕ (Int)} (h : b_X16_below_3 x0 x1 x2 x3 x4 V = some z) (hz : P z) : Sem g d YX16_below 3 [(1, x0), (0, x1), (1, x2), (0, x3), (0, x4), (9, 0)] [] (wr M V) o := by
  delta b_X16_below_3 at h
  refine S_iload dX16_below_3 rfl ?_
  refine S_iconst dX16_below_5 rfl ?_
  refine P_icmp_ge (tgt := 48) dX16_below_6 rfl h (fun h => ?_) (fun h => ?_)
  · obtain ⟨z0, h, hz⟩ := xit_some' (P := fun r => P r) h hz
    refine S_iconst dX16_below_48 rfl ?_
    obtain rfl := r0 _ (some_P (P := fun r => P (.inr r)) h hz)
    exact P_ret dX16_below_49 rfl (Or.inr ⟨rfl, Or.inl rfl⟩)
  · refine S_aload_n (i := 0) dX16_below_9 rfl rfl ?_
    refine S_iload_n (i := 1) dX16_below_10 rfl rfl ?_
    refine S_iload dX16_below_11 rfl ?_
    refine S_iadd dX16_below_13 ?_
    refine P2_lp hM dX16_below_14 h (fun v1 h => ?_)
    refine S_aload_n (i := 2) dX16_below_15 rfl rfl ?_
    refine S_iload_n (i := 3) dX16_below_16 rfl rfl ?_
    refine S_iload dX16_below_17 rfl ?_
    refine S_iadd dX16_below_19 ?_
    refine P2_lp hM dX16_below_20 h (fun v2 h => ?_)
    refine P_invSp 0 [(0, v1), (0, v2)] [] CSX16_order MLX16_416 dX16_below_21 rfl rfl rfl rfl rfl (by omega) h (fun r h => F_X16_order (by omega) hM h) (fun v3 h => ?_)
    refine S_istore dX16_below_24 (Nat.le_of_ble_eq_true rfl) rfl rfl ?_
    change Sem g d YX16_below 26 [(1, x0), (0, x1), (1, x2), (0, x3), (0, x4), (0, v3)] [] (wr M V) o
    refine S_iload dX16_below_26 rfl ?_
    refine P_if_eq (tgt := 42) dX16_below_28 rfl h (fun h => ?_) (fun h => ?_)
    · refine S_iinc dX16_below_42 rfl rfl rfl ?_
      change Sem g d YX16_below 45 [(1, x0), (0, x1), (1, x2), (0, x3), (0, x4 + 1), (0, v3)] [] (wr M V) o
      refine S_goto (tgt := 3) dX16_below_45 rfl ?_
      refine S_weak (ls' := [(1, x0), (0, x1), (1, x2), (0, x3), (0, x4 + 1), (9, 0)]) ⟨Or.inr rfl, ⟨Or.inr rfl, ⟨Or.inr rfl, ⟨Or.inr rfl, ⟨Or.inr rfl, ⟨Or.inl rfl, trivial⟩⟩⟩⟩⟩⟩ ?_
      exact c0 (x4 + 1) (some_P (P := fun r => P r) h hz)
    · refine S_weak (ls' := [(9, 0), (9, 0), (9, 0), (9, 0), (9, 0), (0, v3)]) ⟨Or.inl rfl, ⟨Or.inl rfl, ⟨Or.inl rfl, ⟨Or.inl rfl, ⟨Or.inl rfl, ⟨Or.inr rfl, trivial⟩⟩⟩⟩⟩⟩ ?_
      obtain ⟨z0, h, hz⟩ := xit_some' (P := fun r => P r) h hz
      exact s_X16_below_31 hD hM (P := fun r => P (.inr r)) r0 h hz
theorem sl_X16_below_3 {g : GG} {d : Nat} (hD : 2 ≤ d) {x0 x1 x2 x3 x4 : Int} {M : MM} (hM : LM M) {V : VV} {o : AV × MM} {P : (Int) → Prop} (r0 : ∀ r : Int, P r → o = ((0, r), (wr M V))) {z : Int} (h : l_X16_below_3 x0 x1 x2 x3 x4 V = some z) (hz : P z) : Sem g d YX16_below 3 [(1, x0), (0, x1), (1, x2), (0, x3), (0, x4), (9, 0)] [] (wr M V) o := by
  refine lp_sound (S := fun s : Int => Sem g d YX16_below 3 [(1, x0), (0, x1), (1, x2), (0, x3), (0, s), (9, 0)] [] (wr M V) o) (P := P) ?_ FU x4 z h hz
  intro s x hx hP
  exact s_X16_below_3 hD hM (P := Sum.elim (fun s : Int => Sem g d YX16_below 3 [(1, x0), (0, x1), (1, x2), (0, x3), (0, s), (9, 0)] [] (wr M V) o) P) (fun s h => h) (fun s h => r0 s h) hx hP
theorem s_X16_below_0 {g : GG} {d : Nat} (hD : 2 ≤ d) {x0 x1 x2 x3 : Int} {M : MM} (hM : LM M) {V : VV} {o : AV × MM} {P : (Int) → Prop} (r0 : ∀ r : Int, P r → o = ((0, r), (wr M V))) {z : Int} (h : f_X16_below x0 x1 x2 x3 V = some z) (hz : P z) : Sem g d YX16_below 0 [(1, x0), (0, x1), (1, x2), (0, x3), (9, 0), (9, 0)] [] (wr M V) o := by
  delta f_X16_below at h
  refine S_iconst dX16_below_0 rfl ?_
  refine S_istore dX16_below_1 (Nat.le_of_ble_eq_true rfl) rfl rfl ?_
  change Sem g d YX16_below 3 [(1, x0), (0, x1), (1, x2), (0, x3), (0, 0), (9, 0)] [] (wr M V) o
  exact sl_X16_below_3 hD hM r0 h hz
theorem F_X16_below {g : GG} {d : Nat} (hD : 2 ≤ d) {x0 x1 x2 x3 : Int} {M : MM} (hM : LM M) {V : VV} {r : Int} (h : f_X16_below x0 x1 x2 x3 V = some r) : Sem g d YX16_below 0 (ini YX16_below [(1, x0), (0, x1), (1, x2), (0, x3)]) [] (wr M V) ((0, r), (wr M V)) := by
  change Sem g d YX16_below 0 [(1, x0), (0, x1), (1, x2), (0, x3), (9, 0), (9, 0)] [] (wr M V) ((0, r), (wr M V))
  exact s_X16_below_0 hD hM (P := fun x => x = r) (fun q e => by rw [e]) h rfl
/-! PeerSearchModel.postBefore(II)Z -/
theorem dX16_postBefore_0 : decode cX16_postBefore 0 = .ok (.aload_n 0, 1) := by decide +kernel
theorem dX16_postBefore_1 : decode cX16_postBefore 1 = .ok (.getfield 180, 3) := by decide +kernel
theorem dX16_postBefore_4 : decode cX16_postBefore 4 = .ok (.iconst 5, 1) := by decide +kernel
theorem dX16_postBefore_5 : decode cX16_postBefore 5 = .ok (.iload_n 1, 1) := by decide +kernel
theorem dX16_postBefore_6 : decode cX16_postBefore 6 = .ok (.imul, 1) := by decide +kernel
theorem dX16_postBefore_7 : decode cX16_postBefore 7 = .ok (.aload_n 0, 1) := by decide +kernel
theorem dX16_postBefore_8 : decode cX16_postBefore 8 = .ok (.getfield 180, 3) := by decide +kernel
theorem dX16_postBefore_11 : decode cX16_postBefore 11 = .ok (.iconst 5, 1) := by decide +kernel
theorem dX16_postBefore_12 : decode cX16_postBefore 12 = .ok (.iload_n 2, 1) := by decide +kernel
theorem dX16_postBefore_13 : decode cX16_postBefore 13 = .ok (.imul, 1) := by decide +kernel
theorem dX16_postBefore_14 : decode cX16_postBefore 14 = .ok (.invokestatic 434, 3) := by decide +kernel
theorem dX16_postBefore_17 : decode cX16_postBefore 17 = .ok (.ifCond .ne 21, 3) := by decide +kernel
theorem dX16_postBefore_20 : decode cX16_postBefore 20 = .ok (.aload_n 0, 1) := by decide +kernel
theorem dX16_postBefore_21 : decode cX16_postBefore 21 = .ok (.getfield 180, 3) := by decide +kernel
theorem dX16_postBefore_24 : decode cX16_postBefore 24 = .ok (.iconst 5, 1) := by decide +kernel
theorem dX16_postBefore_25 : decode cX16_postBefore 25 = .ok (.iload_n 1, 1) := by decide +kernel
theorem dX16_postBefore_26 : decode cX16_postBefore 26 = .ok (.imul, 1) := by decide +kernel
theorem dX16_postBefore_27 : decode cX16_postBefore 27 = .ok (.aload_n 0, 1) := by decide +kernel
theorem dX16_postBefore_28 : decode cX16_postBefore 28 = .ok (.getfield 180, 3) := by decide +kernel
theorem dX16_postBefore_31 : decode cX16_postBefore 31 = .ok (.iconst 5, 1) := by decide +kernel
theorem dX16_postBefore_32 : decode cX16_postBefore 32 = .ok (.iload_n 2, 1) := by decide +kernel
theorem dX16_postBefore_33 : decode cX16_postBefore 33 = .ok (.imul, 1) := by decide +kernel
theorem dX16_postBefore_34 : decode cX16_postBefore 34 = .ok (.invokestatic 838, 3) := by decide +kernel
theorem dX16_postBefore_37 : decode cX16_postBefore 37 = .ok (.ireturn, 1) := by decide +kernel
theorem dX16_postBefore_38 : decode cX16_postBefore 38 = .ok (.aload_n 0, 1) := by decide +kernel
theorem dX16_postBefore_39 : decode cX16_postBefore 39 = .ok (.iload_n 1, 1) := by decide +kernel
theorem dX16_postBefore_40 : decode cX16_postBefore 40 = .ok (.iload_n 2, 1) := by decide +kernel
theorem dX16_postBefore_41 : decode cX16_postBefore 41 = .ok (.invokevirtual 562, 3) := by decide +kernel
theorem dX16_postBefore_44 : decode cX16_postBefore 44 = .ok (.ireturn, 1) := by decide +kernel
def f_X16_postBefore (x1 x2 : Int) (V : VV) : Option (Int) :=
  (f_X16_same 211 (5 * x1) 211 (5 * x2) V).bind fun v1 =>
  if w32 v1 = 0 then
    (f_X16_below 211 (5 * x1) 211 (5 * x2) V).bind fun v3 =>
    bz v3 (some v3)
  else
    (f_X16_before x1 x2 V).bind fun v2 =>
    bz v2 (some v2)
theorem s_X16_postBefore_0 {g : GG} {d : Nat} (hD : 3 ≤ d) {x1 x2 : Int} {M : MM} (hM : LM M) {V : VV} {o : AV × MM} {P : (Int) → Prop} (r0 : ∀ r : Int, P r → o = ((0, r), (wr M V))) {z : Int} (h : f_X16_postBefore x1 x2 V = some z) (hz : P z) : Sem g d YX16_postBefore 0 [(1, 156), (0, x1), (0, x2)] [] (wr M V) o := by
  delta f_X16_postBefore at h
  refine S_aload_n (i := 0) dX16_postBefore_0 rfl rfl ?_
  refine P2_gfr hM (a := 211) FLX16_180 rfl ⟨rfl, rfl⟩ dX16_postBefore_1 ?_
  refine S_iconst dX16_postBefore_4 rfl ?_
  refine S_iload_n (i := 1) dX16_postBefore_5 rfl rfl ?_
  refine S_imul dX16_postBefore_6 ?_
  refine S_aload_n (i := 0) dX16_postBefore_7 rfl rfl ?_
  refine P2_gfr hM (a := 211) FLX16_180 rfl ⟨rfl, rfl⟩ dX16_postBefore_8 ?_
  refine S_iconst dX16_postBefore_11 rfl ?_
  refine S_iload_n (i := 2) dX16_postBefore_12 rfl rfl ?_
  refine S_imul dX16_postBefore_13 ?_
  refine P_invSp 0 [(1, 211), (0, 5 * x1), (1, 211), (0, 5 * x2)] [] CSX16_same MLX16_434 dX16_postBefore_14 rfl rfl rfl rfl rfl (by omega) h (fun r h => F_X16_same (by omega) hM h) (fun v1 h => ?_)
  refine P_if_ne (tgt := 38) dX16_postBefore_17 rfl h (fun h => ?_) (fun h => ?_)
  · refine S_aload_n (i := 0) dX16_postBefore_38 rfl rfl ?_
    refine S_iload_n (i := 1) dX16_postBefore_39 rfl rfl ?_
    refine S_iload_n (i := 2) dX16_postBefore_40 rfl rfl ?_
    refine P2_invVp hM 0 [(0, x1), (0, x2)] [] CVX16_before MLX16_562 dX16_postBefore_41 rfl rfl rfl rfl rfl (by omega) h (fun r h => F_X16_before (by omega) hM h) (fun v2 h => ?_)
    obtain ⟨hb, h⟩ := bz_some h
    obtain rfl := r0 _ (some_P (P := fun r => P r) h hz)
    exact P_ret dX16_postBefore_44 rfl (Or.inr ⟨rfl, hb⟩)
  · refine S_aload_n (i := 0) dX16_postBefore_20 rfl rfl ?_
    refine P2_gfr hM (a := 211) FLX16_180 rfl ⟨rfl, rfl⟩ dX16_postBefore_21 ?_
    refine S_iconst dX16_postBefore_24 rfl ?_
    refine S_iload_n (i := 1) dX16_postBefore_25 rfl rfl ?_
    refine S_imul dX16_postBefore_26 ?_
    refine S_aload_n (i := 0) dX16_postBefore_27 rfl rfl ?_
    refine P2_gfr hM (a := 211) FLX16_180 rfl ⟨rfl, rfl⟩ dX16_postBefore_28 ?_
    refine S_iconst dX16_postBefore_31 rfl ?_
    refine S_iload_n (i := 2) dX16_postBefore_32 rfl rfl ?_
    refine S_imul dX16_postBefore_33 ?_
    refine P_invSp 0 [(1, 211), (0, 5 * x1), (1, 211), (0, 5 * x2)] [] CSX16_below MLX16_838 dX16_postBefore_34 rfl rfl rfl rfl rfl (by omega) h (fun r h => F_X16_below (by omega) hM h) (fun v3 h => ?_)
    obtain ⟨hb, h⟩ := bz_some h
    obtain rfl := r0 _ (some_P (P := fun r => P r) h hz)
    exact P_ret dX16_postBefore_37 rfl (Or.inr ⟨rfl, hb⟩)
theorem F_X16_postBefore {g : GG} {d : Nat} (hD : 3 ≤ d) {x1 x2 : Int} {M : MM} (hM : LM M) {V : VV} {r : Int} (h : f_X16_postBefore x1 x2 V = some r) : Sem g d YX16_postBefore 0 (ini YX16_postBefore [(1, 156), (0, x1), (0, x2)]) [] (wr M V) ((0, r), (wr M V)) := by
  change Sem g d YX16_postBefore 0 [(1, 156), (0, x1), (0, x2)] [] (wr M V) ((0, r), (wr M V))
  exact s_X16_postBefore_0 hD hM (P := fun x => x = r) (fun q e => by rw [e]) h rfl
/-! PeerSearchModel.posting(III)I -/
theorem dX16_posting_0 : decode cX16_posting 0 = .ok (.aload_n 0, 1) := by decide +kernel
theorem dX16_posting_1 : decode cX16_posting 1 = .ok (.iload_n 1, 1) := by decide +kernel
theorem dX16_posting_2 : decode cX16_posting 2 = .ok (.invokevirtual 427, 3) := by decide +kernel
theorem dX16_posting_5 : decode cX16_posting 5 = .ok (.ifCond .eq 17, 3) := by decide +kernel
theorem dX16_posting_8 : decode cX16_posting 8 = .ok (.iload_n 2, 1) := by decide +kernel
theorem dX16_posting_9 : decode cX16_posting 9 = .ok (.ifCond .lt 13, 3) := by decide +kernel
theorem dX16_posting_12 : decode cX16_posting 12 = .ok (.iload_n 3, 1) := by decide +kernel
theorem dX16_posting_13 : decode cX16_posting 13 = .ok (.ifCond .lt 9, 3) := by decide +kernel
theorem dX16_posting_16 : decode cX16_posting 16 = .ok (.iload_n 3, 1) := by decide +kernel
theorem dX16_posting_17 : decode cX16_posting 17 = .ok (.bipush 8, 2) := by decide +kernel
theorem dX16_posting_19 : decode cX16_posting 19 = .ok (.if_icmp .le 5, 3) := by decide +kernel
theorem dX16_posting_22 : decode cX16_posting 22 = .ok (.iconst (-1), 1) := by decide +kernel
theorem dX16_posting_23 : decode cX16_posting 23 = .ok (.ireturn, 1) := by decide +kernel
theorem dX16_posting_24 : decode cX16_posting 24 = .ok (.iload_n 2, 1) := by decide +kernel
theorem dX16_posting_25 : decode cX16_posting 25 = .ok (.aload_n 0, 1) := by decide +kernel
theorem dX16_posting_26 : decode cX16_posting 26 = .ok (.getfield 177, 3) := by decide +kernel
theorem dX16_posting_29 : decode cX16_posting 29 = .ok (.iload_n 1, 1) := by decide +kernel
theorem dX16_posting_30 : decode cX16_posting 30 = .ok (.iaload, 1) := by decide +kernel
theorem dX16_posting_31 : decode cX16_posting 31 = .ok (.if_icmp .lt 5, 3) := by decide +kernel
theorem dX16_posting_34 : decode cX16_posting 34 = .ok (.iconst (-1), 1) := by decide +kernel
theorem dX16_posting_35 : decode cX16_posting 35 = .ok (.ireturn, 1) := by decide +kernel
theorem dX16_posting_36 : decode cX16_posting 36 = .ok (.sipush 200, 3) := by decide +kernel
theorem dX16_posting_39 : decode cX16_posting 39 = .ok (.iload_n 1, 1) := by decide +kernel
theorem dX16_posting_40 : decode cX16_posting 40 = .ok (.imul, 1) := by decide +kernel
theorem dX16_posting_41 : decode cX16_posting 41 = .ok (.istore 4, 2) := by decide +kernel
theorem dX16_posting_43 : decode cX16_posting 43 = .ok (.sipush 200, 3) := by decide +kernel
theorem dX16_posting_46 : decode cX16_posting 46 = .ok (.iload_n 1, 1) := by decide +kernel
theorem dX16_posting_47 : decode cX16_posting 47 = .ok (.imul, 1) := by decide +kernel
theorem dX16_posting_48 : decode cX16_posting 48 = .ok (.istore 5, 2) := by decide +kernel
theorem dX16_posting_50 : decode cX16_posting 50 = .ok (.iload 5, 2) := by decide +kernel
theorem dX16_posting_52 : decode cX16_posting 52 = .ok (.sipush 200, 3) := by decide +kernel
theorem dX16_posting_55 : decode cX16_posting 55 = .ok (.iload_n 1, 1) := by decide +kernel
theorem dX16_posting_56 : decode cX16_posting 56 = .ok (.imul, 1) := by decide +kernel
theorem dX16_posting_57 : decode cX16_posting 57 = .ok (.aload_n 0, 1) := by decide +kernel
theorem dX16_posting_58 : decode cX16_posting 58 = .ok (.getfield 177, 3) := by decide +kernel
theorem dX16_posting_61 : decode cX16_posting 61 = .ok (.iload_n 1, 1) := by decide +kernel
theorem dX16_posting_62 : decode cX16_posting 62 = .ok (.iaload, 1) := by decide +kernel
theorem dX16_posting_63 : decode cX16_posting 63 = .ok (.iadd, 1) := by decide +kernel
theorem dX16_posting_64 : decode cX16_posting 64 = .ok (.if_icmp .ge 85, 3) := by decide +kernel
theorem dX16_posting_67 : decode cX16_posting 67 = .ok (.iconst 0, 1) := by decide +kernel
theorem dX16_posting_68 : decode cX16_posting 68 = .ok (.istore 6, 2) := by decide +kernel
theorem dX16_posting_70 : decode cX16_posting 70 = .ok (.sipush 200, 3) := by decide +kernel
theorem dX16_posting_73 : decode cX16_posting 73 = .ok (.iload_n 1, 1) := by decide +kernel
theorem dX16_posting_74 : decode cX16_posting 74 = .ok (.imul, 1) := by decide +kernel
theorem dX16_posting_75 : decode cX16_posting 75 = .ok (.istore 7, 2) := by decide +kernel
theorem dX16_posting_77 : decode cX16_posting 77 = .ok (.iload 7, 2) := by decide +kernel
theorem dX16_posting_79 : decode cX16_posting 79 = .ok (.sipush 200, 3) := by decide +kernel
theorem dX16_posting_82 : decode cX16_posting 82 = .ok (.iload_n 1, 1) := by decide +kernel
theorem dX16_posting_83 : decode cX16_posting 83 = .ok (.imul, 1) := by decide +kernel
theorem dX16_posting_84 : decode cX16_posting 84 = .ok (.aload_n 0, 1) := by decide +kernel
theorem dX16_posting_85 : decode cX16_posting 85 = .ok (.getfield 177, 3) := by decide +kernel
theorem dX16_posting_88 : decode cX16_posting 88 = .ok (.iload_n 1, 1) := by decide +kernel
theorem dX16_posting_89 : decode cX16_posting 89 = .ok (.iaload, 1) := by decide +kernel
theorem dX16_posting_90 : decode cX16_posting 90 = .ok (.iadd, 1) := by decide +kernel
theorem dX16_posting_91 : decode cX16_posting 91 = .ok (.if_icmp .ge 37, 3) := by decide +kernel
theorem dX16_posting_94 : decode cX16_posting 94 = .ok (.iload 6, 2) := by decide +kernel
theorem dX16_posting_96 : decode cX16_posting 96 = .ok (.iload 7, 2) := by decide +kernel
theorem dX16_posting_98 : decode cX16_posting 98 = .ok (.iload 5, 2) := by decide +kernel
theorem dX16_posting_100 : decode cX16_posting 100 = .ok (.if_icmp .eq 18, 3) := by decide +kernel
theorem dX16_posting_103 : decode cX16_posting 103 = .ok (.aload_n 0, 1) := by decide +kernel
theorem dX16_posting_104 : decode cX16_posting 104 = .ok (.iload 7, 2) := by decide +kernel
theorem dX16_posting_106 : decode cX16_posting 106 = .ok (.iload 5, 2) := by decide +kernel
theorem dX16_posting_108 : decode cX16_posting 108 = .ok (.invokevirtual 841, 3) := by decide +kernel
theorem dX16_posting_111 : decode cX16_posting 111 = .ok (.ifCond .eq 7, 3) := by decide +kernel
theorem dX16_posting_114 : decode cX16_posting 114 = .ok (.iconst 1, 1) := by decide +kernel
theorem dX16_posting_115 : decode cX16_posting 115 = .ok (.goto 4, 3) := by decide +kernel
theorem dX16_posting_118 : decode cX16_posting 118 = .ok (.iconst 0, 1) := by decide +kernel
theorem dX16_posting_119 : decode cX16_posting 119 = .ok (.iadd, 1) := by decide +kernel
theorem dX16_posting_120 : decode cX16_posting 120 = .ok (.istore 6, 2) := by decide +kernel
theorem dX16_posting_122 : decode cX16_posting 122 = .ok (.iinc 7 1, 3) := by decide +kernel
theorem dX16_posting_125 : decode cX16_posting 125 = .ok (.goto (-48), 3) := by decide +kernel
theorem dX16_posting_128 : decode cX16_posting 128 = .ok (.iload 6, 2) := by decide +kernel
theorem dX16_posting_130 : decode cX16_posting 130 = .ok (.iload_n 2, 1) := by decide +kernel
theorem dX16_posting_131 : decode cX16_posting 131 = .ok (.if_icmp .ne 8, 3) := by decide +kernel
theorem dX16_posting_134 : decode cX16_posting 134 = .ok (.iload 5, 2) := by decide +kernel
theorem dX16_posting_136 : decode cX16_posting 136 = .ok (.goto 5, 3) := by decide +kernel
theorem dX16_posting_139 : decode cX16_posting 139 = .ok (.iload 4, 2) := by decide +kernel
theorem dX16_posting_141 : decode cX16_posting 141 = .ok (.istore 4, 2) := by decide +kernel
theorem dX16_posting_143 : decode cX16_posting 143 = .ok (.iinc 5 1, 3) := by decide +kernel
theorem dX16_posting_146 : decode cX16_posting 146 = .ok (.goto (-96), 3) := by decide +kernel
theorem dX16_posting_149 : decode cX16_posting 149 = .ok (.iload_n 3, 1) := by decide +kernel
theorem dX16_posting_150 : decode cX16_posting 150 = .ok (.ifCond .ne 13, 3) := by decide +kernel
theorem dX16_posting_153 : decode cX16_posting 153 = .ok (.aload_n 0, 1) := by decide +kernel
theorem dX16_posting_154 : decode cX16_posting 154 = .ok (.getfield 183, 3) := by decide +kernel
theorem dX16_posting_157 : decode cX16_posting 157 = .ok (.iload 4, 2) := by decide +kernel
theorem dX16_posting_159 : decode cX16_posting 159 = .ok (.iaload, 1) := by decide +kernel
theorem dX16_posting_160 : decode cX16_posting 160 = .ok (.goto 61, 3) := by decide +kernel
theorem dX16_posting_163 : decode cX16_posting 163 = .ok (.iload_n 3, 1) := by decide +kernel
theorem dX16_posting_164 : decode cX16_posting 164 = .ok (.iconst 1, 1) := by decide +kernel
theorem dX16_posting_165 : decode cX16_posting 165 = .ok (.if_icmp .ne 13, 3) := by decide +kernel
theorem dX16_posting_168 : decode cX16_posting 168 = .ok (.aload_n 0, 1) := by decide +kernel
theorem dX16_posting_169 : decode cX16_posting 169 = .ok (.getfield 186, 3) := by decide +kernel
theorem dX16_posting_172 : decode cX16_posting 172 = .ok (.iload 4, 2) := by decide +kernel
theorem dX16_posting_174 : decode cX16_posting 174 = .ok (.iaload, 1) := by decide +kernel
theorem dX16_posting_175 : decode cX16_posting 175 = .ok (.goto 46, 3) := by decide +kernel
theorem dX16_posting_178 : decode cX16_posting 178 = .ok (.iload_n 3, 1) := by decide +kernel
theorem dX16_posting_179 : decode cX16_posting 179 = .ok (.iconst 2, 1) := by decide +kernel
theorem dX16_posting_180 : decode cX16_posting 180 = .ok (.if_icmp .ne 13, 3) := by decide +kernel
theorem dX16_posting_183 : decode cX16_posting 183 = .ok (.aload_n 0, 1) := by decide +kernel
theorem dX16_posting_184 : decode cX16_posting 184 = .ok (.getfield 189, 3) := by decide +kernel
theorem dX16_posting_187 : decode cX16_posting 187 = .ok (.iload 4, 2) := by decide +kernel
theorem dX16_posting_189 : decode cX16_posting 189 = .ok (.iaload, 1) := by decide +kernel
theorem dX16_posting_190 : decode cX16_posting 190 = .ok (.goto 31, 3) := by decide +kernel
theorem dX16_posting_193 : decode cX16_posting 193 = .ok (.iload_n 3, 1) := by decide +kernel
theorem dX16_posting_194 : decode cX16_posting 194 = .ok (.iconst 3, 1) := by decide +kernel
theorem dX16_posting_195 : decode cX16_posting 195 = .ok (.if_icmp .ne 13, 3) := by decide +kernel
theorem dX16_posting_198 : decode cX16_posting 198 = .ok (.aload_n 0, 1) := by decide +kernel
theorem dX16_posting_199 : decode cX16_posting 199 = .ok (.getfield 192, 3) := by decide +kernel
theorem dX16_posting_202 : decode cX16_posting 202 = .ok (.iload 4, 2) := by decide +kernel
theorem dX16_posting_204 : decode cX16_posting 204 = .ok (.iaload, 1) := by decide +kernel
theorem dX16_posting_205 : decode cX16_posting 205 = .ok (.goto 16, 3) := by decide +kernel
theorem dX16_posting_208 : decode cX16_posting 208 = .ok (.aload_n 0, 1) := by decide +kernel
theorem dX16_posting_209 : decode cX16_posting 209 = .ok (.getfield 180, 3) := by decide +kernel
theorem dX16_posting_212 : decode cX16_posting 212 = .ok (.iconst 5, 1) := by decide +kernel
theorem dX16_posting_213 : decode cX16_posting 213 = .ok (.iload 4, 2) := by decide +kernel
theorem dX16_posting_215 : decode cX16_posting 215 = .ok (.imul, 1) := by decide +kernel
theorem dX16_posting_216 : decode cX16_posting 216 = .ok (.iload_n 3, 1) := by decide +kernel
theorem dX16_posting_217 : decode cX16_posting 217 = .ok (.iadd, 1) := by decide +kernel
theorem dX16_posting_218 : decode cX16_posting 218 = .ok (.iconst 4, 1) := by decide +kernel
theorem dX16_posting_219 : decode cX16_posting 219 = .ok (.isub, 1) := by decide +kernel
theorem dX16_posting_220 : decode cX16_posting 220 = .ok (.iaload, 1) := by decide +kernel
theorem dX16_posting_221 : decode cX16_posting 221 = .ok (.ireturn, 1) := by decide +kernel
def j_X16_posting_221 (y0 : Int) (V : VV) : Option (Int) :=
  some y0
def j_X16_posting_149 (x3 x4 : Int) (V : VV) : Option (Int) :=
  if w32 x3 = 0 then
    (l2 212 6400 x4 V).bind fun v5 =>
    j_X16_posting_221 v5 V
  else
    if w32 x3 = w32 1 then
      (l2 213 6400 x4 V).bind fun v4 =>
      j_X16_posting_221 v4 V
    else
      if w32 x3 = w32 2 then
        (l2 214 6400 x4 V).bind fun v3 =>
        j_X16_posting_221 v3 V
      else
        if w32 x3 = w32 3 then
          (l2 215 6400 x4 V).bind fun v2 =>
          j_X16_posting_221 v2 V
        else
          (l2 211 32000 (((5 * x4) + x3) - 4) V).bind fun v1 =>
          j_X16_posting_221 v1 V
def j_X16_posting_141 (x1 x2 x3 x5 y0 : Int) (V : VV) : Option ((Int × Int) ⊕ (Int)) :=
  cnt (y0, x5 + 1)
def j_X16_posting_128 (x1 x2 x3 x4 x5 x6 : Int) (V : VV) : Option ((Int × Int) ⊕ (Int)) :=
  if w32 x6 = w32 x2 then
    j_X16_posting_141 x1 x2 x3 x5 x5 V
  else
    j_X16_posting_141 x1 x2 x3 x5 x4 V
def j_X16_posting_119 (x1 x2 x3 x4 x5 x7 y0 y1 : Int) (V : VV) : Option ((Int × Int) ⊕ ((Int × Int) ⊕ (Int))) :=
  cnt (y0 + y1, x7 + 1)
def j_X16_posting_118 (x1 x2 x3 x4 x5 x7 y0 : Int) (V : VV) : Option ((Int × Int) ⊕ ((Int × Int) ⊕ (Int))) :=
  j_X16_posting_119 x1 x2 x3 x4 x5 x7 y0 0 V
def b_X16_posting_77 (x1 x2 x3 x4 x5 x6 x7 : Int) (V : VV) : Option ((Int × Int) ⊕ ((Int × Int) ⊕ (Int))) :=
  (l2 210 32 x1 V).bind fun v1 =>
  if w32 x7 < w32 ((200 * x1) + v1) then
    if w32 x7 = w32 x5 then
      j_X16_posting_118 x1 x2 x3 x4 x5 x7 x6 V
    else
      (f_X16_postBefore x7 x5 V).bind fun v2 =>
      if w32 v2 = 0 then
        j_X16_posting_118 x1 x2 x3 x4 x5 x7 x6 V
      else
        j_X16_posting_119 x1 x2 x3 x4 x5 x7 x6 1 V
  else
    xit (j_X16_posting_128 x1 x2 x3 x4 x5 x6 V)
def l_X16_posting_77 (x1 x2 x3 x4 x5 x6 x7 : Int) (V : VV) : Option ((Int × Int) ⊕ (Int)) := lpN (fun s : Int × Int => b_X16_posting_77 x1 x2 x3 x4 x5 s.1 s.2 V) FU (x6, x7)
def b_X16_posting_50 (x1 x2 x3 x4 x5 : Int) (V : VV) : Option ((Int × Int) ⊕ (Int)) :=
  (l2 210 32 x1 V).bind fun v1 =>
  if w32 x5 < w32 ((200 * x1) + v1) then
    l_X16_posting_77 x1 x2 x3 x4 x5 0 (200 * x1) V
  else
    xit (j_X16_posting_149 x3 x4 V)
def l_X16_posting_50 (x1 x2 x3 x4 x5 : Int) (V : VV) : Option (Int) := lpN (fun s : Int × Int => b_X16_posting_50 x1 x2 x3 s.1 s.2 V) FU (x4, x5)
def j_X16_posting_22 (V : VV) : Option (Int) :=
  some (-1)
def f_X16_posting (x1 x2 x3 : Int) (V : VV) : Option (Int) :=
  (f_X16_isPeer x1 V).bind fun v1 =>
  if w32 v1 = 0 then
    j_X16_posting_22 V
  else
    if w32 x2 < 0 then
      j_X16_posting_22 V
    else
      if w32 x3 < 0 then
        j_X16_posting_22 V
      else
        if w32 8 < w32 x3 then
          j_X16_posting_22 V
        else
          (l2 210 32 x1 V).bind fun v2 =>
          if w32 x2 < w32 v2 then
            l_X16_posting_50 x1 x2 x3 (200 * x1) (200 * x1) V
          else
            some (-1)
theorem s_X16_posting_221 {g : GG} {d : Nat} (hD : 4 ≤ d) {y0 : Int} {M : MM} (hM : LM M) {V : VV} {o : AV × MM} {P : (Int) → Prop} (r0 : ∀ r : Int, P r → o = ((0, r), (wr M V))) {z : Int} (h : j_X16_posting_221 y0 V = some z) (hz : P z) : Sem g d YX16_posting 221 [(9, 0), (9, 0), (9, 0), (9, 0), (9, 0), (9, 0), (9, 0), (9, 0)] [(0, y0)] (wr M V) o := by
  delta j_X16_posting_221 at h
  obtain rfl := r0 _ (some_P (P := fun r => P r) h hz)
  exact P_ret dX16_posting_221 rfl (Or.inl rfl)
theorem s_X16_posting_149 {g : GG} {d : Nat} (hD : 4 ≤ d) {x3 x4 : Int} {M : MM} (hM : LM M) {V : VV} {o : AV × MM} {P : (Int) → Prop} (r0 : ∀ r : Int, P r → o = ((0, r), (wr M V))) {z : Int} (h : j_X16_posting_149 x3 x4 V = some z) (hz : P z) : Sem g d YX16_posting 149 [(1, 156), (9, 0), (9, 0), (0, x3), (0, x4), (9, 0), (9, 0), (9, 0)] [] (wr M V) o := by
  delta j_X16_posting_149 at h
  refine S_iload_n (i := 3) dX16_posting_149 rfl rfl ?_
  refine P_if_ne (tgt := 163) dX16_posting_150 rfl h (fun h => ?_) (fun h => ?_)
  · refine S_iload_n (i := 3) dX16_posting_163 rfl rfl ?_
    refine S_iconst dX16_posting_164 rfl ?_
    refine P_icmp_ne (tgt := 178) dX16_posting_165 rfl h (fun h => ?_) (fun h => ?_)
    · refine S_iload_n (i := 3) dX16_posting_178 rfl rfl ?_
      refine S_iconst dX16_posting_179 rfl ?_
      refine P_icmp_ne (tgt := 193) dX16_posting_180 rfl h (fun h => ?_) (fun h => ?_)
      · refine S_iload_n (i := 3) dX16_posting_193 rfl rfl ?_
        refine S_iconst dX16_posting_194 rfl ?_
        refine P_icmp_ne (tgt := 208) dX16_posting_195 rfl h (fun h => ?_) (fun h => ?_)
        · refine S_aload_n (i := 0) dX16_posting_208 rfl rfl ?_
          refine P2_gfr hM (a := 211) FLX16_180 rfl ⟨rfl, rfl⟩ dX16_posting_209 ?_
          refine S_iconst dX16_posting_212 rfl ?_
          refine S_iload dX16_posting_213 rfl ?_
          refine S_imul dX16_posting_215 ?_
          refine S_iload_n (i := 3) dX16_posting_216 rfl rfl ?_
          refine S_iadd dX16_posting_217 ?_
          refine S_iconst dX16_posting_218 rfl ?_
          refine S_isub dX16_posting_219 ?_
          refine P2_lai hM (a := 211) (n := 32000) rfl dX16_posting_220 h (fun v1 h => ?_)
          refine S_weak (ls' := [(9, 0), (9, 0), (9, 0), (9, 0), (9, 0), (9, 0), (9, 0), (9, 0)]) ⟨Or.inl rfl, ⟨Or.inl rfl, ⟨Or.inl rfl, ⟨Or.inl rfl, ⟨Or.inl rfl, ⟨Or.inl rfl, ⟨Or.inl rfl, ⟨Or.inl rfl, trivial⟩⟩⟩⟩⟩⟩⟩⟩ ?_
          exact s_X16_posting_221 hD hM r0 h hz
        · refine S_aload_n (i := 0) dX16_posting_198 rfl rfl ?_
          refine P2_gfr hM (a := 215) FLX16_192 rfl ⟨rfl, rfl⟩ dX16_posting_199 ?_
          refine S_iload dX16_posting_202 rfl ?_
          refine P2_lai hM (a := 215) (n := 6400) rfl dX16_posting_204 h (fun v2 h => ?_)
          refine S_goto (tgt := 221) dX16_posting_205 rfl ?_
          refine S_weak (ls' := [(9, 0), (9, 0), (9, 0), (9, 0), (9, 0), (9, 0), (9, 0), (9, 0)]) ⟨Or.inl rfl, ⟨Or.inl rfl, ⟨Or.inl rfl, ⟨Or.inl rfl, ⟨Or.inl rfl, ⟨Or.inl rfl, ⟨Or.inl rfl, ⟨Or.inl rfl, trivial⟩⟩⟩⟩⟩⟩⟩⟩ ?_
          exact s_X16_posting_221 hD hM r0 h hz
      · refine S_aload_n (i := 0) dX16_posting_183 rfl rfl ?_
        refine P2_gfr hM (a := 214) FLX16_189 rfl ⟨rfl, rfl⟩ dX16_posting_184 ?_
        refine S_iload dX16_posting_187 rfl ?_
        refine P2_lai hM (a := 214) (n := 6400) rfl dX16_posting_189 h (fun v3 h => ?_)
        refine S_goto (tgt := 221) dX16_posting_190 rfl ?_
        refine S_weak (ls' := [(9, 0), (9, 0), (9, 0), (9, 0), (9, 0), (9, 0), (9, 0), (9, 0)]) ⟨Or.inl rfl, ⟨Or.inl rfl, ⟨Or.inl rfl, ⟨Or.inl rfl, ⟨Or.inl rfl, ⟨Or.inl rfl, ⟨Or.inl rfl, ⟨Or.inl rfl, trivial⟩⟩⟩⟩⟩⟩⟩⟩ ?_
        exact s_X16_posting_221 hD hM r0 h hz
    · refine S_aload_n (i := 0) dX16_posting_168 rfl rfl ?_
      refine P2_gfr hM (a := 213) FLX16_186 rfl ⟨rfl, rfl⟩ dX16_posting_169 ?_
      refine S_iload dX16_posting_172 rfl ?_
      refine P2_lai hM (a := 213) (n := 6400) rfl dX16_posting_174 h (fun v4 h => ?_)
      refine S_goto (tgt := 221) dX16_posting_175 rfl ?_
      refine S_weak (ls' := [(9, 0), (9, 0), (9, 0), (9, 0), (9, 0), (9, 0), (9, 0), (9, 0)]) ⟨Or.inl rfl, ⟨Or.inl rfl, ⟨Or.inl rfl, ⟨Or.inl rfl, ⟨Or.inl rfl, ⟨Or.inl rfl, ⟨Or.inl rfl, ⟨Or.inl rfl, trivial⟩⟩⟩⟩⟩⟩⟩⟩ ?_
      exact s_X16_posting_221 hD hM r0 h hz
  · refine S_aload_n (i := 0) dX16_posting_153 rfl rfl ?_
    refine P2_gfr hM (a := 212) FLX16_183 rfl ⟨rfl, rfl⟩ dX16_posting_154 ?_
    refine S_iload dX16_posting_157 rfl ?_
    refine P2_lai hM (a := 212) (n := 6400) rfl dX16_posting_159 h (fun v5 h => ?_)
    refine S_goto (tgt := 221) dX16_posting_160 rfl ?_
    refine S_weak (ls' := [(9, 0), (9, 0), (9, 0), (9, 0), (9, 0), (9, 0), (9, 0), (9, 0)]) ⟨Or.inl rfl, ⟨Or.inl rfl, ⟨Or.inl rfl, ⟨Or.inl rfl, ⟨Or.inl rfl, ⟨Or.inl rfl, ⟨Or.inl rfl, ⟨Or.inl rfl, trivial⟩⟩⟩⟩⟩⟩⟩⟩ ?_
    exact s_X16_posting_221 hD hM r0 h hz
theorem s_X16_posting_141 {g : GG} {d : Nat} (hD : 4 ≤ d) {x1 x2 x3 x5 y0 : Int} {M : MM} (hM : LM M) {V : VV} {o : AV × MM} {P : ((Int × Int) ⊕ (Int)) → Prop} (c0 : ∀ s : Int × Int, P (.inl s) → Sem g d YX16_posting 50 [(1, 156), (0, x1), (0, x2), (0, x3), (0, s.1), (0, s.2), (9, 0), (9, 0)] [] (wr M V) o) (r0 : ∀ r : Int, P (.inr r) → o = ((0, r), (wr M V))) {z : (Int × Int) ⊕ (Int)} (h : j_X16_posting_141 x1 x2 x3 x5 y0 V = some z) (hz : P z) : Sem g d YX16_posting 141 [(1, 156), (0, x1), (0, x2), (0, x3), (9, 0), (0, x5), (9, 0), (9, 0)] [(0, y0)] (wr M V) o := by
  delta j_X16_posting_141 at h
  refine S_istore dX16_posting_141 (Nat.le_of_ble_eq_true rfl) rfl rfl ?_
  change Sem g d YX16_posting 143 [(1, 156), (0, x1), (0, x2), (0, x3), (0, y0), (0, x5), (9, 0), (9, 0)] [] (wr M V) o
  refine S_iinc dX16_posting_143 rfl rfl rfl ?_
  change Sem g d YX16_posting 146 [(1, 156), (0, x1), (0, x2), (0, x3), (0, y0), (0, x5 + 1), (9, 0), (9, 0)] [] (wr M V) o
  refine S_goto (tgt := 50) dX16_posting_146 rfl ?_
  exact c0 (y0, x5 + 1) (some_P (P := fun r => P r) h hz)
theorem s_X16_posting_128 {g : GG} {d : Nat} (hD : 4 ≤ d) {x1 x2 x3 x4 x5 x6 : Int} {M : MM} (hM : LM M) {V : VV} {o : AV × MM} {P : ((Int × Int) ⊕ (Int)) → Prop} (c0 : ∀ s : Int × Int, P (.inl s) → Sem g d YX16_posting 50 [(1, 156), (0, x1), (0, x2), (0, x3), (0, s.1), (0, s.2), (9, 0), (9, 0)] [] (wr M V) o) (r0 : ∀ r : Int, P (.inr r) → o = ((0, r), (wr M V))) {z : (Int × Int) ⊕ (Int)} (h : j_X16_posting_128 x1 x2 x3 x4 x5 x6 V = some z) (hz : P z) : Sem g d YX16_posting 128 [(1, 156), (0, x1), (0, x2), (0, x3), (0, x4), (0, x5), (0, x6), (9, 0)] [] (wr M V) o := by
  delta j_X16_posting_128 at h
  refine S_iload dX16_posting_128 rfl ?_
  refine S_iload_n (i := 2) dX16_posting_130 rfl rfl ?_
  refine P_icmp_ne (tgt := 139) dX16_posting_131 rfl h (fun h => ?_) (fun h => ?_)
  · refine S_iload dX16_posting_139 rfl ?_
    refine S_weak (ls' := [(1, 156), (0, x1), (0, x2), (0, x3), (9, 0), (0, x5), (9, 0), (9, 0)]) ⟨Or.inr rfl, ⟨Or.inr rfl, ⟨Or.inr rfl, ⟨Or.inr rfl, ⟨Or.inl rfl, ⟨Or.inr rfl, ⟨Or.inl rfl, ⟨Or.inl rfl, trivial⟩⟩⟩⟩⟩⟩⟩⟩ ?_
    exact s_X16_posting_141 hD hM c0 r0 h hz
  · refine S_iload dX16_posting_134 rfl ?_
    refine S_goto (tgt := 141) dX16_posting_136 rfl ?_
    refine S_weak (ls' := [(1, 156), (0, x1), (0, x2), (0, x3), (9, 0), (0, x5), (9, 0), (9, 0)]) ⟨Or.inr rfl, ⟨Or.inr rfl, ⟨Or.inr rfl, ⟨Or.inr rfl, ⟨Or.inl rfl, ⟨Or.inr rfl, ⟨Or.inl rfl, ⟨Or.inl rfl, trivial⟩⟩⟩⟩⟩⟩⟩⟩ ?_
    exact s_X16_posting_141 hD hM c0 r0 h hz
theorem s_X16_posting_119 {g : GG} {d : Nat} (hD : 4 ≤ d) {x1 x2 x3 x4 x5 x7 y0 y1 : Int} {M : MM} (hM : LM M) {V : VV} {o : AV × MM} {P : ((Int × Int) ⊕ ((Int × Int) ⊕ (Int))) → Prop} (c1 : ∀ s : Int × Int, P (.inl s) → Sem g d YX16_posting 77 [(1, 156), (0, x1), (0, x2), (0, x3), (0, x4), (0, x5), (0, s.1), (0, s.2)] [] (wr M V) o) (c0 : ∀ s : Int × Int, P (.inr (.inl s)) → Sem g d YX16_posting 50 [(1, 156), (0, x1), (0, x2), (0, x3), (0, s.1), (0, s.2), (9, 0), (9, 0)] [] (wr M V) o) (r0 : ∀ r : Int, P (.inr (.inr r)) → o = ((0, r), (wr M V))) {z : (Int × Int) ⊕ ((Int × Int) ⊕ (Int))} (h : j_X16_posting_119 x1 x2 x3 x4 x5 x7 y0 y1 V = some z) (hz : P z) : Sem g d YX16_posting 119 [(1, 156), (0, x1), (0, x2), (0, x3), (0, x4), (0, x5), (9, 0), (0, x7)] [(0, y1), (0, y0)] (wr M V) o := by
  delta j_X16_posting_119 at h
  refine S_iadd dX16_posting_119 ?_
  refine S_istore dX16_posting_120 (Nat.le_of_ble_eq_true rfl) rfl rfl ?_
  change Sem g d YX16_posting 122 [(1, 156), (0, x1), (0, x2), (0, x3), (0, x4), (0, x5), (0, y0 + y1), (0, x7)] [] (wr M V) o
  refine S_iinc dX16_posting_122 rfl rfl rfl ?_
  change Sem g d YX16_posting 125 [(1, 156), (0, x1), (0, x2), (0, x3), (0, x4), (0, x5), (0, y0 + y1), (0, x7 + 1)] [] (wr M V) o
  refine S_goto (tgt := 77) dX16_posting_125 rfl ?_
  exact c1 (y0 + y1, x7 + 1) (some_P (P := fun r => P r) h hz)
theorem s_X16_posting_118 {g : GG} {d : Nat} (hD : 4 ≤ d) {x1 x2 x3 x4 x5 x7 y0 : Int} {M : MM} (hM : LM M) {V : VV} {o : AV × MM} {P : ((Int × Int) ⊕ ((Int × Int) ⊕ (Int))) → Prop} (c1 : ∀ s : Int × Int, P (.inl s) → Sem g d YX16_posting 77 [(1, 156), (0, x1), (0, x2), (0, x3), (0, x4), (0, x5), (0, s.1), (0, s.2)] [] (wr M V) o) (c0 : ∀ s : Int × Int, P (.inr (.inl s)) → Sem g d YX16_posting 50 [(1, 156), (0, x1), (0, x2), (0, x3), (0, s.1), (0, s.2), (9, 0), (9, 0)] [] (wr M V) o) (r0 : ∀ r : Int, P (.inr (.inr r)) → o = ((0, r), (wr M V))) {z : (Int × Int) ⊕ ((Int × Int) ⊕ (Int))} (h : j_X16_posting_118 x1 x2 x3 x4 x5 x7 y0 V = some z) (hz : P z) : Sem g d YX16_posting 118 [(1, 156), (0, x1), (0, x2), (0, x3), (0, x4), (0, x5), (9, 0), (0, x7)] [(0, y0)] (wr M V) o := by
  delta j_X16_posting_118 at h
  refine S_iconst dX16_posting_118 rfl ?_
  exact s_X16_posting_119 hD hM c1 c0 r0 h hz
theorem s_X16_posting_77 {g : GG} {d : Nat} (hD : 4 ≤ d) {x1 x2 x3 x4 x5 x6 x7 : Int} {M : MM} (hM : LM M) {V : VV} {o : AV × MM} {P : ((Int × Int) ⊕ ((Int × Int) ⊕ (Int))) → Prop} (c1 : ∀ s : Int × Int, P (.inl s) → Sem g d YX16_posting 77 [(1, 156), (0, x1), (0, x2), (0, x3), (0, x4), (0, x5), (0, s.1), (0, s.2)] [] (wr M V) o) (c0 : ∀ s : Int × Int, P (.inr (.inl s)) → Sem g d YX16_posting 50 [(1, 156), (0, x1), (0, x2), (0, x3), (0, s.1), (0, s.2), (9, 0), (9, 0)] [] (wr M V) o) (r0 : ∀ r : Int, P (.inr (.inr r)) → o = ((0, r), (wr M V))) {z : (Int × Int) ⊕ ((Int × Int) ⊕ (Int))} (h : b_X16_posting_77 x1 x2 x3 x4 x5 x6 x7 V = some z) (hz : P z) : Sem g d YX16_posting 77 [(1, 156), (0, x1), (0, x2), (0, x3), (0, x4), (0, x5), (0, x6), (0, x7)] [] (wr M V) o := by
  delta b_X16_posting_77 at h
  refine S_iload dX16_posting_77 rfl ?_
  refine S_sipush (z := 200) dX16_posting_79 rfl ?_
  refine S_iload_n (i := 1) dX16_posting_82 rfl rfl ?_
  refine S_imul dX16_posting_83 ?_
  refine S_aload_n (i := 0) dX16_posting_84 rfl rfl ?_
  refine P2_gfr hM (a := 210) FLX16_177 rfl ⟨rfl, rfl⟩ dX16_posting_85 ?_
  refine S_iload_n (i := 1) dX16_posting_88 rfl rfl ?_
  refine P2_lai hM (a := 210) (n := 32) rfl dX16_posting_89 h (fun v1 h => ?_)
  refine S_iadd dX16_posting_90 ?_
  refine P_icmp_ge (tgt := 128) dX16_posting_91 rfl h (fun h => ?_) (fun h => ?_)
  · refine S_weak (ls' := [(1, 156), (0, x1), (0, x2), (0, x3), (0, x4), (0, x5), (0, x6), (9, 0)]) ⟨Or.inr rfl, ⟨Or.inr rfl, ⟨Or.inr rfl, ⟨Or.inr rfl, ⟨Or.inr rfl, ⟨Or.inr rfl, ⟨Or.inr rfl, ⟨Or.inl rfl, trivial⟩⟩⟩⟩⟩⟩⟩⟩ ?_
    obtain ⟨z0, h, hz⟩ := xit_some' (P := fun r => P r) h hz
    exact s_X16_posting_128 hD hM (P := fun r => P (.inr r)) c0 r0 h hz
  · refine S_iload dX16_posting_94 rfl ?_
    refine S_iload dX16_posting_96 rfl ?_
    refine S_iload dX16_posting_98 rfl ?_
    refine P_icmp_eq (tgt := 118) dX16_posting_100 rfl h (fun h => ?_) (fun h => ?_)
    · refine S_weak (ls' := [(1, 156), (0, x1), (0, x2), (0, x3), (0, x4), (0, x5), (9, 0), (0, x7)]) ⟨Or.inr rfl, ⟨Or.inr rfl, ⟨Or.inr rfl, ⟨Or.inr rfl, ⟨Or.inr rfl, ⟨Or.inr rfl, ⟨Or.inl rfl, ⟨Or.inr rfl, trivial⟩⟩⟩⟩⟩⟩⟩⟩ ?_
      exact s_X16_posting_118 hD hM c1 c0 r0 h hz
    · refine S_aload_n (i := 0) dX16_posting_103 rfl rfl ?_
      refine S_iload dX16_posting_104 rfl ?_
      refine S_iload dX16_posting_106 rfl ?_
      refine P2_invVp hM 0 [(0, x7), (0, x5)] [(0, x6)] CVX16_postBefore MLX16_841 dX16_posting_108 rfl rfl rfl rfl rfl (by omega) h (fun r h => F_X16_postBefore (by omega) hM h) (fun v2 h => ?_)
      refine P_if_eq (tgt := 118) dX16_posting_111 rfl h (fun h => ?_) (fun h => ?_)
      · refine S_weak (ls' := [(1, 156), (0, x1), (0, x2), (0, x3), (0, x4), (0, x5), (9, 0), (0, x7)]) ⟨Or.inr rfl, ⟨Or.inr rfl, ⟨Or.inr rfl, ⟨Or.inr rfl, ⟨Or.inr rfl, ⟨Or.inr rfl, ⟨Or.inl rfl, ⟨Or.inr rfl, trivial⟩⟩⟩⟩⟩⟩⟩⟩ ?_
        exact s_X16_posting_118 hD hM c1 c0 r0 h hz
      · refine S_iconst dX16_posting_114 rfl ?_
        refine S_goto (tgt := 119) dX16_posting_115 rfl ?_
        refine S_weak (ls' := [(1, 156), (0, x1), (0, x2), (0, x3), (0, x4), (0, x5), (9, 0), (0, x7)]) ⟨Or.inr rfl, ⟨Or.inr rfl, ⟨Or.inr rfl, ⟨Or.inr rfl, ⟨Or.inr rfl, ⟨Or.inr rfl, ⟨Or.inl rfl, ⟨Or.inr rfl, trivial⟩⟩⟩⟩⟩⟩⟩⟩ ?_
        exact s_X16_posting_119 hD hM c1 c0 r0 h hz
theorem sl_X16_posting_77 {g : GG} {d : Nat} (hD : 4 ≤ d) {x1 x2 x3 x4 x5 x6 x7 : Int} {M : MM} (hM : LM M) {V : VV} {o : AV × MM} {P : ((Int × Int) ⊕ (Int)) → Prop} (c0 : ∀ s : Int × Int, P (.inl s) → Sem g d YX16_posting 50 [(1, 156), (0, x1), (0, x2), (0, x3), (0, s.1), (0, s.2), (9, 0), (9, 0)] [] (wr M V) o) (r0 : ∀ r : Int, P (.inr r) → o = ((0, r), (wr M V))) {z : (Int × Int) ⊕ (Int)} (h : l_X16_posting_77 x1 x2 x3 x4 x5 x6 x7 V = some z) (hz : P z) : Sem g d YX16_posting 77 [(1, 156), (0, x1), (0, x2), (0, x3), (0, x4), (0, x5), (0, x6), (0, x7)] [] (wr M V) o := by
  refine lp_sound (S := fun s : Int × Int => Sem g d YX16_posting 77 [(1, 156), (0, x1), (0, x2), (0, x3), (0, x4), (0, x5), (0, s.1), (0, s.2)] [] (wr M V) o) (P := P) ?_ FU (x6, x7) z h hz
  intro s x hx hP
  exact s_X16_posting_77 hD hM (P := Sum.elim (fun s : Int × Int => Sem g d YX16_posting 77 [(1, 156), (0, x1), (0, x2), (0, x3), (0, x4), (0, x5), (0, s.1), (0, s.2)] [] (wr M V) o) P) (fun s h => h) (fun s h => c0 s h) (fun s h => r0 s h) hx hP
theorem s_X16_posting_50 {g : GG} {d : Nat} (hD : 4 ≤ d) {x1 x2 x3 x4 x5 : Int} {M : MM} (hM : LM M) {V : VV} {o : AV × MM} {P : ((Int × Int) ⊕ (Int)) → Prop} (c0 : ∀ s : Int × Int, P (.inl s) → Sem g d YX16_posting 50 [(1, 156), (0, x1), (0, x2), (0, x3), (0, s.1), (0, s.2), (9, 0), (9, 0)] [] (wr M V) o) (r0 : ∀ r : Int, P (.inr r) → o = ((0, r), (wr M V))) {z : (Int × Int) ⊕ (Int)} (h : b_X16_posting_50 x1 x2 x3 x4 x5 V = some z) (hz : P z) : Sem g d YX16_posting 50 [(1, 156), (0, x1), (0, x2), (0, x3), (0, x4), (0, x5), (9, 0), (9, 0)] [] (wr M V) o := by
  delta b_X16_posting_50 at h
  refine S_iload dX16_posting_50 rfl ?_
  refine S_sipush (z := 200) dX16_posting_52 rfl ?_
  refine S_iload_n (i := 1) dX16_posting_55 rfl rfl ?_
  refine S_imul dX16_posting_56 ?_
  refine S_aload_n (i := 0) dX16_posting_57 rfl rfl ?_
  refine P2_gfr hM (a := 210) FLX16_177 rfl ⟨rfl, rfl⟩ dX16_posting_58 ?_
  refine S_iload_n (i := 1) dX16_posting_61 rfl rfl ?_
  refine P2_lai hM (a := 210) (n := 32) rfl dX16_posting_62 h (fun v1 h => ?_)
  refine S_iadd dX16_posting_63 ?_
  refine P_icmp_ge (tgt := 149) dX16_posting_64 rfl h (fun h => ?_) (fun h => ?_)
  · refine S_weak (ls' := [(1, 156), (9, 0), (9, 0), (0, x3), (0, x4), (9, 0), (9, 0), (9, 0)]) ⟨Or.inr rfl, ⟨Or.inl rfl, ⟨Or.inl rfl, ⟨Or.inr rfl, ⟨Or.inr rfl, ⟨Or.inl rfl, ⟨Or.inl rfl, ⟨Or.inl rfl, trivial⟩⟩⟩⟩⟩⟩⟩⟩ ?_
    obtain ⟨z0, h, hz⟩ := xit_some' (P := fun r => P r) h hz
    exact s_X16_posting_149 hD hM (P := fun r => P (.inr r)) r0 h hz
  · refine S_iconst dX16_posting_67 rfl ?_
    refine S_istore dX16_posting_68 (Nat.le_of_ble_eq_true rfl) rfl rfl ?_
    change Sem g d YX16_posting 70 [(1, 156), (0, x1), (0, x2), (0, x3), (0, x4), (0, x5), (0, 0), (9, 0)] [] (wr M V) o
    refine S_sipush (z := 200) dX16_posting_70 rfl ?_
    refine S_iload_n (i := 1) dX16_posting_73 rfl rfl ?_
    refine S_imul dX16_posting_74 ?_
    refine S_istore dX16_posting_75 (Nat.le_of_ble_eq_true rfl) rfl rfl ?_
    change Sem g d YX16_posting 77 [(1, 156), (0, x1), (0, x2), (0, x3), (0, x4), (0, x5), (0, 0), (0, 200 * x1)] [] (wr M V) o
    exact sl_X16_posting_77 hD hM c0 r0 h hz
theorem sl_X16_posting_50 {g : GG} {d : Nat} (hD : 4 ≤ d) {x1 x2 x3 x4 x5 : Int} {M : MM} (hM : LM M) {V : VV} {o : AV × MM} {P : (Int) → Prop} (r0 : ∀ r : Int, P r → o = ((0, r), (wr M V))) {z : Int} (h : l_X16_posting_50 x1 x2 x3 x4 x5 V = some z) (hz : P z) : Sem g d YX16_posting 50 [(1, 156), (0, x1), (0, x2), (0, x3), (0, x4), (0, x5), (9, 0), (9, 0)] [] (wr M V) o := by
  refine lp_sound (S := fun s : Int × Int => Sem g d YX16_posting 50 [(1, 156), (0, x1), (0, x2), (0, x3), (0, s.1), (0, s.2), (9, 0), (9, 0)] [] (wr M V) o) (P := P) ?_ FU (x4, x5) z h hz
  intro s x hx hP
  exact s_X16_posting_50 hD hM (P := Sum.elim (fun s : Int × Int => Sem g d YX16_posting 50 [(1, 156), (0, x1), (0, x2), (0, x3), (0, s.1), (0, s.2), (9, 0), (9, 0)] [] (wr M V) o) P) (fun s h => h) (fun s h => r0 s h) hx hP
theorem s_X16_posting_22 {g : GG} {d : Nat} (hD : 4 ≤ d) {M : MM} (hM : LM M) {V : VV} {o : AV × MM} {P : (Int) → Prop} (r0 : ∀ r : Int, P r → o = ((0, r), (wr M V))) {z : Int} (h : j_X16_posting_22 V = some z) (hz : P z) : Sem g d YX16_posting 22 [(9, 0), (9, 0), (9, 0), (9, 0), (9, 0), (9, 0), (9, 0), (9, 0)] [] (wr M V) o := by
  delta j_X16_posting_22 at h
  refine S_iconst dX16_posting_22 rfl ?_
  obtain rfl := r0 _ (some_P (P := fun r => P r) h hz)
  exact P_ret dX16_posting_23 rfl (Or.inl rfl)
theorem s_X16_posting_0 {g : GG} {d : Nat} (hD : 4 ≤ d) {x1 x2 x3 : Int} {M : MM} (hM : LM M) {V : VV} {o : AV × MM} {P : (Int) → Prop} (r0 : ∀ r : Int, P r → o = ((0, r), (wr M V))) {z : Int} (h : f_X16_posting x1 x2 x3 V = some z) (hz : P z) : Sem g d YX16_posting 0 [(1, 156), (0, x1), (0, x2), (0, x3), (9, 0), (9, 0), (9, 0), (9, 0)] [] (wr M V) o := by
  delta f_X16_posting at h
  refine S_aload_n (i := 0) dX16_posting_0 rfl rfl ?_
  refine S_iload_n (i := 1) dX16_posting_1 rfl rfl ?_
  refine P2_invVp hM 0 [(0, x1)] [] CVX16_isPeer MLX16_427 dX16_posting_2 rfl rfl rfl rfl rfl (by omega) h (fun r h => F_X16_isPeer (by omega) hM h) (fun v1 h => ?_)
  refine P_if_eq (tgt := 22) dX16_posting_5 rfl h (fun h => ?_) (fun h => ?_)
  · refine S_weak (ls' := [(9, 0), (9, 0), (9, 0), (9, 0), (9, 0), (9, 0), (9, 0), (9, 0)]) ⟨Or.inl rfl, ⟨Or.inl rfl, ⟨Or.inl rfl, ⟨Or.inl rfl, ⟨Or.inl rfl, ⟨Or.inl rfl, ⟨Or.inl rfl, ⟨Or.inl rfl, trivial⟩⟩⟩⟩⟩⟩⟩⟩ ?_
    exact s_X16_posting_22 hD hM r0 h hz
  · refine S_iload_n (i := 2) dX16_posting_8 rfl rfl ?_
    refine P_if_lt (tgt := 22) dX16_posting_9 rfl h (fun h => ?_) (fun h => ?_)
    · refine S_weak (ls' := [(9, 0), (9, 0), (9, 0), (9, 0), (9, 0), (9, 0), (9, 0), (9, 0)]) ⟨Or.inl rfl, ⟨Or.inl rfl, ⟨Or.inl rfl, ⟨Or.inl rfl, ⟨Or.inl rfl, ⟨Or.inl rfl, ⟨Or.inl rfl, ⟨Or.inl rfl, trivial⟩⟩⟩⟩⟩⟩⟩⟩ ?_
      exact s_X16_posting_22 hD hM r0 h hz
    · refine S_iload_n (i := 3) dX16_posting_12 rfl rfl ?_
      refine P_if_lt (tgt := 22) dX16_posting_13 rfl h (fun h => ?_) (fun h => ?_)
      · refine S_weak (ls' := [(9, 0), (9, 0), (9, 0), (9, 0), (9, 0), (9, 0), (9, 0), (9, 0)]) ⟨Or.inl rfl, ⟨Or.inl rfl, ⟨Or.inl rfl, ⟨Or.inl rfl, ⟨Or.inl rfl, ⟨Or.inl rfl, ⟨Or.inl rfl, ⟨Or.inl rfl, trivial⟩⟩⟩⟩⟩⟩⟩⟩ ?_
        exact s_X16_posting_22 hD hM r0 h hz
      · refine S_iload_n (i := 3) dX16_posting_16 rfl rfl ?_
        refine S_bipush (z := 8) dX16_posting_17 rfl ?_
        refine P_icmp_le (tgt := 24) dX16_posting_19 rfl h (fun h => ?_) (fun h => ?_)
        · refine S_iload_n (i := 2) dX16_posting_24 rfl rfl ?_
          refine S_aload_n (i := 0) dX16_posting_25 rfl rfl ?_
          refine P2_gfr hM (a := 210) FLX16_177 rfl ⟨rfl, rfl⟩ dX16_posting_26 ?_
          refine S_iload_n (i := 1) dX16_posting_29 rfl rfl ?_
          refine P2_lai hM (a := 210) (n := 32) rfl dX16_posting_30 h (fun v2 h => ?_)
          refine P_icmp_lt (tgt := 36) dX16_posting_31 rfl h (fun h => ?_) (fun h => ?_)
          · refine S_sipush (z := 200) dX16_posting_36 rfl ?_
            refine S_iload_n (i := 1) dX16_posting_39 rfl rfl ?_
            refine S_imul dX16_posting_40 ?_
            refine S_istore dX16_posting_41 (Nat.le_of_ble_eq_true rfl) rfl rfl ?_
            change Sem g d YX16_posting 43 [(1, 156), (0, x1), (0, x2), (0, x3), (0, 200 * x1), (9, 0), (9, 0), (9, 0)] [] (wr M V) o
            refine S_sipush (z := 200) dX16_posting_43 rfl ?_
            refine S_iload_n (i := 1) dX16_posting_46 rfl rfl ?_
            refine S_imul dX16_posting_47 ?_
            refine S_istore dX16_posting_48 (Nat.le_of_ble_eq_true rfl) rfl rfl ?_
            change Sem g d YX16_posting 50 [(1, 156), (0, x1), (0, x2), (0, x3), (0, 200 * x1), (0, 200 * x1), (9, 0), (9, 0)] [] (wr M V) o
            exact sl_X16_posting_50 hD hM r0 h hz
          · refine S_iconst dX16_posting_34 rfl ?_
            obtain rfl := r0 _ (some_P (P := fun r => P r) h hz)
            exact P_ret dX16_posting_35 rfl (Or.inl rfl)
        · refine S_weak (ls' := [(9, 0), (9, 0), (9, 0), (9, 0), (9, 0), (9, 0), (9, 0), (9, 0)]) ⟨Or.inl rfl, ⟨Or.inl rfl, ⟨Or.inl rfl, ⟨Or.inl rfl, ⟨Or.inl rfl, ⟨Or.inl rfl, ⟨Or.inl rfl, ⟨Or.inl rfl, trivial⟩⟩⟩⟩⟩⟩⟩⟩ ?_
          exact s_X16_posting_22 hD hM r0 h hz
theorem F_X16_posting {g : GG} {d : Nat} (hD : 4 ≤ d) {x1 x2 x3 : Int} {M : MM} (hM : LM M) {V : VV} {r : Int} (h : f_X16_posting x1 x2 x3 V = some r) : Sem g d YX16_posting 0 (ini YX16_posting [(1, 156), (0, x1), (0, x2), (0, x3)]) [] (wr M V) ((0, r), (wr M V)) := by
  change Sem g d YX16_posting 0 [(1, 156), (0, x1), (0, x2), (0, x3), (9, 0), (9, 0), (9, 0), (9, 0)] [] (wr M V) ((0, r), (wr M V))
  exact s_X16_posting_0 hD hM (P := fun x => x = r) (fun q e => by rw [e]) h rfl
/-! PeerSearchModel.beginPublish(II)V -/
theorem dX16_beginPublish_0 : decode cX16_beginPublish 0 = .ok (.aload_n 0, 1) := by decide +kernel
theorem dX16_beginPublish_1 : decode cX16_beginPublish 1 = .ok (.iload_n 1, 1) := by decide +kernel
theorem dX16_beginPublish_2 : decode cX16_beginPublish 2 = .ok (.iconst 2, 1) := by decide +kernel
theorem dX16_beginPublish_3 : decode cX16_beginPublish 3 = .ok (.iload_n 2, 1) := by decide +kernel
theorem dX16_beginPublish_4 : decode cX16_beginPublish 4 = .ok (.invokevirtual 720, 3) := by decide +kernel
theorem dX16_beginPublish_7 : decode cX16_beginPublish 7 = .ok (.aload_n 0, 1) := by decide +kernel
theorem dX16_beginPublish_8 : decode cX16_beginPublish 8 = .ok (.getfield 48, 3) := by decide +kernel
theorem dX16_beginPublish_11 : decode cX16_beginPublish 11 = .ok (.iload_n 2, 1) := by decide +kernel
theorem dX16_beginPublish_12 : decode cX16_beginPublish 12 = .ok (.aload_n 0, 1) := by decide +kernel
theorem dX16_beginPublish_13 : decode cX16_beginPublish 13 = .ok (.getfield 483, 3) := by decide +kernel
theorem dX16_beginPublish_16 : decode cX16_beginPublish 16 = .ok (.iastore, 1) := by decide +kernel
theorem dX16_beginPublish_17 : decode cX16_beginPublish 17 = .ok (.aload_n 0, 1) := by decide +kernel
theorem dX16_beginPublish_18 : decode cX16_beginPublish 18 = .ok (.getfield 276, 3) := by decide +kernel
theorem dX16_beginPublish_21 : decode cX16_beginPublish 21 = .ok (.iload_n 1, 1) := by decide +kernel
theorem dX16_beginPublish_22 : decode cX16_beginPublish 22 = .ok (.aload_n 0, 1) := by decide +kernel
theorem dX16_beginPublish_23 : decode cX16_beginPublish 23 = .ok (.getfield 60, 3) := by decide +kernel
theorem dX16_beginPublish_26 : decode cX16_beginPublish 26 = .ok (.iload_n 2, 1) := by decide +kernel
theorem dX16_beginPublish_27 : decode cX16_beginPublish 27 = .ok (.iaload, 1) := by decide +kernel
theorem dX16_beginPublish_28 : decode cX16_beginPublish 28 = .ok (.iastore, 1) := by decide +kernel
theorem dX16_beginPublish_29 : decode cX16_beginPublish 29 = .ok (.aload_n 0, 1) := by decide +kernel
theorem dX16_beginPublish_30 : decode cX16_beginPublish 30 = .ok (.getfield 279, 3) := by decide +kernel
theorem dX16_beginPublish_33 : decode cX16_beginPublish 33 = .ok (.iload_n 1, 1) := by decide +kernel
theorem dX16_beginPublish_34 : decode cX16_beginPublish 34 = .ok (.iconst (-1), 1) := by decide +kernel
theorem dX16_beginPublish_35 : decode cX16_beginPublish 35 = .ok (.iastore, 1) := by decide +kernel
theorem dX16_beginPublish_36 : decode cX16_beginPublish 36 = .ok (.aload_n 0, 1) := by decide +kernel
theorem dX16_beginPublish_37 : decode cX16_beginPublish 37 = .ok (.getfield 285, 3) := by decide +kernel
theorem dX16_beginPublish_40 : decode cX16_beginPublish 40 = .ok (.iload_n 1, 1) := by decide +kernel
theorem dX16_beginPublish_41 : decode cX16_beginPublish 41 = .ok (.iconst 0, 1) := by decide +kernel
theorem dX16_beginPublish_42 : decode cX16_beginPublish 42 = .ok (.bastore, 1) := by decide +kernel
theorem dX16_beginPublish_43 : decode cX16_beginPublish 43 = .ok (.aload_n 0, 1) := by decide +kernel
theorem dX16_beginPublish_44 : decode cX16_beginPublish 44 = .ok (.iload_n 1, 1) := by decide +kernel
theorem dX16_beginPublish_45 : decode cX16_beginPublish 45 = .ok (.invokevirtual 647, 3) := by decide +kernel
theorem dX16_beginPublish_48 : decode cX16_beginPublish 48 = .ok (.aload_n 0, 1) := by decide +kernel
theorem dX16_beginPublish_49 : decode cX16_beginPublish 49 = .ok (.iload_n 1, 1) := by decide +kernel
theorem dX16_beginPublish_50 : decode cX16_beginPublish 50 = .ok (.invokevirtual 726, 3) := by decide +kernel
theorem dX16_beginPublish_53 : decode cX16_beginPublish 53 = .ok (.return_, 1) := by decide +kernel
def f_X16_beginPublish (x1 x2 : Int) (V : VV) : Option (VV) :=
  (f_X16_open x1 2 x2 V).bind fun V1 =>
  (s2 169 32 x2 (w32 (V1 156 11)) V1).bind fun V2 =>
  (l2 173 32 x2 V2).bind fun v1 =>
  (s2 243 44 x1 v1 V2).bind fun V3 =>
  (s2 244 44 x1 (-1) V3).bind fun V4 =>
  (s2z 246 44 x1 0 V4).bind fun V5 =>
  (f_X16_nextTerm x1 V5).bind fun V6 =>
  (f_X16_proceed x1 V6).bind fun V7 =>
  some V7
theorem s_X16_beginPublish_0 {g : GG} {d : Nat} (hD : 9 ≤ d) {x1 x2 : Int} {M : MM} (hM : LM M) {V : VV} {o : AV × MM} {P : (VV) → Prop} (r0 : ∀ r : VV, P r → o = ((9, 0), (wr M r))) {z : VV} (h : f_X16_beginPublish x1 x2 V = some z) (hz : P z) : Sem g d YX16_beginPublish 0 [(1, 156), (0, x1), (0, x2)] [] (wr M V) o := by
  delta f_X16_beginPublish at h
  refine S_aload_n (i := 0) dX16_beginPublish_0 rfl rfl ?_
  refine S_iload_n (i := 1) dX16_beginPublish_1 rfl rfl ?_
  refine S_iconst dX16_beginPublish_2 rfl ?_
  refine S_iload_n (i := 2) dX16_beginPublish_3 rfl rfl ?_
  refine P2_invVm hM [(0, x1), (0, 2), (0, x2)] [] CVX16_open MLX16_720 dX16_beginPublish_4 rfl rfl rfl rfl (by omega) h (fun r h => F_X16_open (by omega) hM h) (fun V1 h => ?_)
  refine S_aload_n (i := 0) dX16_beginPublish_7 rfl rfl ?_
  refine P2_gfr hM (a := 169) FLX16_48 rfl ⟨rfl, rfl⟩ dX16_beginPublish_8 ?_
  refine S_iload_n (i := 2) dX16_beginPublish_11 rfl rfl ?_
  refine S_aload_n (i := 0) dX16_beginPublish_12 rfl rfl ?_
  refine P2_gfi hM FLX16_483 rfl dX16_beginPublish_13 ?_
  refine P2_sai hM (a := 169) (n := 32) rfl dX16_beginPublish_16 h (fun V2 h => ?_)
  refine S_aload_n (i := 0) dX16_beginPublish_17 rfl rfl ?_
  refine P2_gfr hM (a := 243) FLX16_276 rfl ⟨rfl, rfl⟩ dX16_beginPublish_18 ?_
  refine S_iload_n (i := 1) dX16_beginPublish_21 rfl rfl ?_
  refine S_aload_n (i := 0) dX16_beginPublish_22 rfl rfl ?_
  refine P2_gfr hM (a := 173) FLX16_60 rfl ⟨rfl, rfl⟩ dX16_beginPublish_23 ?_
  refine S_iload_n (i := 2) dX16_beginPublish_26 rfl rfl ?_
  refine P2_lai hM (a := 173) (n := 32) rfl dX16_beginPublish_27 h (fun v1 h => ?_)
  refine P2_sai hM (a := 243) (n := 44) rfl dX16_beginPublish_28 h (fun V3 h => ?_)
  refine S_aload_n (i := 0) dX16_beginPublish_29 rfl rfl ?_
  refine P2_gfr hM (a := 244) FLX16_279 rfl ⟨rfl, rfl⟩ dX16_beginPublish_30 ?_
  refine S_iload_n (i := 1) dX16_beginPublish_33 rfl rfl ?_
  refine S_iconst dX16_beginPublish_34 rfl ?_
  refine P2_sai hM (a := 244) (n := 44) rfl dX16_beginPublish_35 h (fun V4 h => ?_)
  refine S_aload_n (i := 0) dX16_beginPublish_36 rfl rfl ?_
  refine P2_gfr hM (a := 246) FLX16_285 rfl ⟨rfl, rfl⟩ dX16_beginPublish_37 ?_
  refine S_iload_n (i := 1) dX16_beginPublish_40 rfl rfl ?_
  refine S_iconst dX16_beginPublish_41 rfl ?_
  refine P2_saz hM (a := 246) (n := 44) rfl dX16_beginPublish_42 h (fun V5 h => ?_)
  refine S_aload_n (i := 0) dX16_beginPublish_43 rfl rfl ?_
  refine S_iload_n (i := 1) dX16_beginPublish_44 rfl rfl ?_
  refine P2_invVm hM [(0, x1)] [] CVX16_nextTerm MLX16_647 dX16_beginPublish_45 rfl rfl rfl rfl (by omega) h (fun r h => F_X16_nextTerm (by omega) hM h) (fun V6 h => ?_)
  refine S_aload_n (i := 0) dX16_beginPublish_48 rfl rfl ?_
  refine S_iload_n (i := 1) dX16_beginPublish_49 rfl rfl ?_
  refine P2_invVm hM [(0, x1)] [] CVX16_proceed MLX16_726 dX16_beginPublish_50 rfl rfl rfl rfl (by omega) h (fun r h => F_X16_proceed (by omega) hM h) (fun V7 h => ?_)
  obtain rfl := r0 _ (some_P (P := fun r => P r) h hz)
  exact S_return dX16_beginPublish_53 rfl
theorem F_X16_beginPublish {g : GG} {d : Nat} (hD : 9 ≤ d) {x1 x2 : Int} {M : MM} (hM : LM M) {V : VV} {r : VV} (h : f_X16_beginPublish x1 x2 V = some r) : Sem g d YX16_beginPublish 0 (ini YX16_beginPublish [(1, 156), (0, x1), (0, x2)]) [] (wr M V) ((9, 0), (wr M r)) := by
  change Sem g d YX16_beginPublish 0 [(1, 156), (0, x1), (0, x2)] [] (wr M V) ((9, 0), (wr M r))
  exact s_X16_beginPublish_0 hD hM (P := fun x => x = r) (fun q e => by rw [e]) h rfl
/-! PeerSearchModel.publish(I)I -/
theorem dX16_publish_0 : decode cX16_publish 0 = .ok (.aload_n 0, 1) := by decide +kernel
theorem dX16_publish_1 : decode cX16_publish 1 = .ok (.invokevirtual 717, 3) := by decide +kernel
theorem dX16_publish_4 : decode cX16_publish 4 = .ok (.istore_n 2, 1) := by decide +kernel
theorem dX16_publish_5 : decode cX16_publish 5 = .ok (.aload_n 0, 1) := by decide +kernel
theorem dX16_publish_6 : decode cX16_publish 6 = .ok (.iload_n 1, 1) := by decide +kernel
theorem dX16_publish_7 : decode cX16_publish 7 = .ok (.invokevirtual 729, 3) := by decide +kernel
theorem dX16_publish_10 : decode cX16_publish 10 = .ok (.ifCond .eq 7, 3) := by decide +kernel
theorem dX16_publish_13 : decode cX16_publish 13 = .ok (.iload_n 2, 1) := by decide +kernel
theorem dX16_publish_14 : decode cX16_publish 14 = .ok (.ifCond .ge 5, 3) := by decide +kernel
theorem dX16_publish_17 : decode cX16_publish 17 = .ok (.iconst (-1), 1) := by decide +kernel
theorem dX16_publish_18 : decode cX16_publish 18 = .ok (.ireturn, 1) := by decide +kernel
theorem dX16_publish_19 : decode cX16_publish 19 = .ok (.aload_n 0, 1) := by decide +kernel
theorem dX16_publish_20 : decode cX16_publish 20 = .ok (.iload_n 2, 1) := by decide +kernel
theorem dX16_publish_21 : decode cX16_publish 21 = .ok (.iload_n 1, 1) := by decide +kernel
theorem dX16_publish_22 : decode cX16_publish 22 = .ok (.invokevirtual 739, 3) := by decide +kernel
theorem dX16_publish_25 : decode cX16_publish 25 = .ok (.aload_n 0, 1) := by decide +kernel
theorem dX16_publish_26 : decode cX16_publish 26 = .ok (.getfield 615, 3) := by decide +kernel
theorem dX16_publish_29 : decode cX16_publish 29 = .ok (.iconst 1, 1) := by decide +kernel
theorem dX16_publish_30 : decode cX16_publish 30 = .ok (.isub, 1) := by decide +kernel
theorem dX16_publish_31 : decode cX16_publish 31 = .ok (.ireturn, 1) := by decide +kernel
def j_X16_publish_17 (V : VV) : Option (Int × VV) :=
  some ((-1), V)
def f_X16_publish (x1 : Int) (V : VV) : Option (Int × VV) :=
  (f_X16_freePlace V).bind fun v1 =>
  (f_X16_lives x1 V).bind fun v2 =>
  if w32 v2 = 0 then
    j_X16_publish_17 V
  else
    if w32 v1 < 0 then
      j_X16_publish_17 V
    else
      (f_X16_beginPublish v1 x1 V).bind fun V1 =>
      some ((w32 (V1 156 91)) - 1, V1)
theorem s_X16_publish_17 {g : GG} {d : Nat} (hD : 10 ≤ d) {M : MM} (hM : LM M) {V : VV} {o : AV × MM} {P : (Int × VV) → Prop} (r0 : ∀ r : Int × VV, P r → o = ((0, r.1), (wr M r.2))) {z : Int × VV} (h : j_X16_publish_17 V = some z) (hz : P z) : Sem g d YX16_publish 17 [(9, 0), (9, 0), (9, 0)] [] (wr M V) o := by
  delta j_X16_publish_17 at h
  refine S_iconst dX16_publish_17 rfl ?_
  obtain rfl := r0 _ (some_P (P := fun r => P r) h hz)
  exact P_ret dX16_publish_18 rfl (Or.inl rfl)
theorem s_X16_publish_0 {g : GG} {d : Nat} (hD : 10 ≤ d) {x1 : Int} {M : MM} (hM : LM M) {V : VV} {o : AV × MM} {P : (Int × VV) → Prop} (r0 : ∀ r : Int × VV, P r → o = ((0, r.1), (wr M r.2))) {z : Int × VV} (h : f_X16_publish x1 V = some z) (hz : P z) : Sem g d YX16_publish 0 [(1, 156), (0, x1), (9, 0)] [] (wr M V) o := by
  delta f_X16_publish at h
  refine S_aload_n (i := 0) dX16_publish_0 rfl rfl ?_
  refine P2_invVp hM 0 [] [] CVX16_freePlace MLX16_717 dX16_publish_1 rfl rfl rfl rfl rfl (by omega) h (fun r h => F_X16_freePlace (by omega) hM h) (fun v1 h => ?_)
  refine S_istore_n (i := 2) dX16_publish_4 rfl (Nat.le_of_ble_eq_true rfl) rfl rfl ?_
  change Sem g d YX16_publish 5 [(1, 156), (0, x1), (0, v1)] [] (wr M V) o
  refine S_aload_n (i := 0) dX16_publish_5 rfl rfl ?_
  refine S_iload_n (i := 1) dX16_publish_6 rfl rfl ?_
  refine P2_invVp hM 0 [(0, x1)] [] CVX16_lives MLX16_729 dX16_publish_7 rfl rfl rfl rfl rfl (by omega) h (fun r h => F_X16_lives (by omega) hM h) (fun v2 h => ?_)
  refine P_if_eq (tgt := 17) dX16_publish_10 rfl h (fun h => ?_) (fun h => ?_)
  · refine S_weak (ls' := [(9, 0), (9, 0), (9, 0)]) ⟨Or.inl rfl, ⟨Or.inl rfl, ⟨Or.inl rfl, trivial⟩⟩⟩ ?_
    exact s_X16_publish_17 hD hM r0 h hz
  · refine S_iload_n (i := 2) dX16_publish_13 rfl rfl ?_
    refine P_if_ge (tgt := 19) dX16_publish_14 rfl h (fun h => ?_) (fun h => ?_)
    · refine S_aload_n (i := 0) dX16_publish_19 rfl rfl ?_
      refine S_iload_n (i := 2) dX16_publish_20 rfl rfl ?_
      refine S_iload_n (i := 1) dX16_publish_21 rfl rfl ?_
      refine P2_invVm hM [(0, v1), (0, x1)] [] CVX16_beginPublish MLX16_739 dX16_publish_22 rfl rfl rfl rfl (by omega) h (fun r h => F_X16_beginPublish (by omega) hM h) (fun V1 h => ?_)
      refine S_aload_n (i := 0) dX16_publish_25 rfl rfl ?_
      refine P2_gfi hM FLX16_615 rfl dX16_publish_26 ?_
      refine S_iconst dX16_publish_29 rfl ?_
      refine S_isub dX16_publish_30 ?_
      obtain rfl := r0 _ (some_P (P := fun r => P r) h hz)
      exact P_ret dX16_publish_31 rfl (Or.inl rfl)
    · refine S_weak (ls' := [(9, 0), (9, 0), (9, 0)]) ⟨Or.inl rfl, ⟨Or.inl rfl, ⟨Or.inl rfl, trivial⟩⟩⟩ ?_
      exact s_X16_publish_17 hD hM r0 h hz
theorem F_X16_publish {g : GG} {d : Nat} (hD : 10 ≤ d) {x1 : Int} {M : MM} (hM : LM M) {V : VV} {r : Int × VV} (h : f_X16_publish x1 V = some r) : Sem g d YX16_publish 0 (ini YX16_publish [(1, 156), (0, x1)]) [] (wr M V) ((0, r.1), (wr M r.2)) := by
  change Sem g d YX16_publish 0 [(1, 156), (0, x1), (9, 0)] [] (wr M V) ((0, r.1), (wr M r.2))
  exact s_X16_publish_0 hD hM (P := fun x => x = r) (fun q e => by rw [e]) h rfl
/-! PeerSearchModel.query(I)I -/
theorem dX16_query_0 : decode cX16_query 0 = .ok (.aload_n 0, 1) := by decide +kernel
theorem dX16_query_1 : decode cX16_query 1 = .ok (.invokevirtual 455, 3) := by decide +kernel
theorem dX16_query_4 : decode cX16_query 4 = .ok (.aload_n 0, 1) := by decide +kernel
theorem dX16_query_5 : decode cX16_query 5 = .ok (.iconst 0, 1) := by decide +kernel
theorem dX16_query_6 : decode cX16_query 6 = .ok (.putfield 387, 3) := by decide +kernel
theorem dX16_query_9 : decode cX16_query 9 = .ok (.aload_n 0, 1) := by decide +kernel
theorem dX16_query_10 : decode cX16_query 10 = .ok (.invokevirtual 717, 3) := by decide +kernel
theorem dX16_query_13 : decode cX16_query 13 = .ok (.istore_n 2, 1) := by decide +kernel
theorem dX16_query_14 : decode cX16_query 14 = .ok (.aload_n 0, 1) := by decide +kernel
theorem dX16_query_15 : decode cX16_query 15 = .ok (.iload_n 1, 1) := by decide +kernel
theorem dX16_query_16 : decode cX16_query 16 = .ok (.invokevirtual 729, 3) := by decide +kernel
theorem dX16_query_19 : decode cX16_query 19 = .ok (.ifCond .eq 23, 3) := by decide +kernel
theorem dX16_query_22 : decode cX16_query 22 = .ok (.iload_n 2, 1) := by decide +kernel
theorem dX16_query_23 : decode cX16_query 23 = .ok (.ifCond .lt 19, 3) := by decide +kernel
theorem dX16_query_26 : decode cX16_query 26 = .ok (.aload_n 0, 1) := by decide +kernel
theorem dX16_query_27 : decode cX16_query 27 = .ok (.getfield 442, 3) := by decide +kernel
theorem dX16_query_30 : decode cX16_query 30 = .ok (.iconst 1, 1) := by decide +kernel
theorem dX16_query_31 : decode cX16_query 31 = .ok (.if_icmp .lt 11, 3) := by decide +kernel
theorem dX16_query_34 : decode cX16_query 34 = .ok (.aload_n 0, 1) := by decide +kernel
theorem dX16_query_35 : decode cX16_query 35 = .ok (.getfield 442, 3) := by decide +kernel
theorem dX16_query_38 : decode cX16_query 38 = .ok (.iconst 3, 1) := by decide +kernel
theorem dX16_query_39 : decode cX16_query 39 = .ok (.if_icmp .le 5, 3) := by decide +kernel
theorem dX16_query_42 : decode cX16_query 42 = .ok (.iconst (-1), 1) := by decide +kernel
theorem dX16_query_43 : decode cX16_query 43 = .ok (.ireturn, 1) := by decide +kernel
theorem dX16_query_44 : decode cX16_query 44 = .ok (.aload_n 0, 1) := by decide +kernel
theorem dX16_query_45 : decode cX16_query 45 = .ok (.iload_n 2, 1) := by decide +kernel
theorem dX16_query_46 : decode cX16_query 46 = .ok (.iconst 3, 1) := by decide +kernel
theorem dX16_query_47 : decode cX16_query 47 = .ok (.iload_n 1, 1) := by decide +kernel
theorem dX16_query_48 : decode cX16_query 48 = .ok (.invokevirtual 720, 3) := by decide +kernel
theorem dX16_query_51 : decode cX16_query 51 = .ok (.aload_n 0, 1) := by decide +kernel
theorem dX16_query_52 : decode cX16_query 52 = .ok (.getfield 288, 3) := by decide +kernel
theorem dX16_query_55 : decode cX16_query 55 = .ok (.iload_n 2, 1) := by decide +kernel
theorem dX16_query_56 : decode cX16_query 56 = .ok (.aload_n 0, 1) := by decide +kernel
theorem dX16_query_57 : decode cX16_query 57 = .ok (.getfield 442, 3) := by decide +kernel
theorem dX16_query_60 : decode cX16_query 60 = .ok (.iastore, 1) := by decide +kernel
theorem dX16_query_61 : decode cX16_query 61 = .ok (.aload_n 0, 1) := by decide +kernel
theorem dX16_query_62 : decode cX16_query 62 = .ok (.getfield 291, 3) := by decide +kernel
theorem dX16_query_65 : decode cX16_query 65 = .ok (.iload_n 2, 1) := by decide +kernel
theorem dX16_query_66 : decode cX16_query 66 = .ok (.iconst 0, 1) := by decide +kernel
theorem dX16_query_67 : decode cX16_query 67 = .ok (.iastore, 1) := by decide +kernel
theorem dX16_query_68 : decode cX16_query 68 = .ok (.iconst 0, 1) := by decide +kernel
theorem dX16_query_69 : decode cX16_query 69 = .ok (.istore_n 3, 1) := by decide +kernel
theorem dX16_query_70 : decode cX16_query 70 = .ok (.iload_n 3, 1) := by decide +kernel
theorem dX16_query_71 : decode cX16_query 71 = .ok (.aload_n 0, 1) := by decide +kernel
theorem dX16_query_72 : decode cX16_query 72 = .ok (.getfield 442, 3) := by decide +kernel
theorem dX16_query_75 : decode cX16_query 75 = .ok (.if_icmp .ge 33, 3) := by decide +kernel
theorem dX16_query_78 : decode cX16_query 78 = .ok (.aload_n 0, 1) := by decide +kernel
theorem dX16_query_79 : decode cX16_query 79 = .ok (.iload_n 3, 1) := by decide +kernel
theorem dX16_query_80 : decode cX16_query 80 = .ok (.invokevirtual 461, 3) := by decide +kernel
theorem dX16_query_83 : decode cX16_query 83 = .ok (.aload_n 0, 1) := by decide +kernel
theorem dX16_query_84 : decode cX16_query 84 = .ok (.getfield 294, 3) := by decide +kernel
theorem dX16_query_87 : decode cX16_query 87 = .ok (.iconst 5, 1) := by decide +kernel
theorem dX16_query_88 : decode cX16_query 88 = .ok (.iconst 3, 1) := by decide +kernel
theorem dX16_query_89 : decode cX16_query 89 = .ok (.iload_n 2, 1) := by decide +kernel
theorem dX16_query_90 : decode cX16_query 90 = .ok (.imul, 1) := by decide +kernel
theorem dX16_query_91 : decode cX16_query 91 = .ok (.iload_n 3, 1) := by decide +kernel
theorem dX16_query_92 : decode cX16_query 92 = .ok (.iadd, 1) := by decide +kernel
theorem dX16_query_93 : decode cX16_query 93 = .ok (.imul, 1) := by decide +kernel
theorem dX16_query_94 : decode cX16_query 94 = .ok (.aload_n 0, 1) := by decide +kernel
theorem dX16_query_95 : decode cX16_query 95 = .ok (.getfield 22, 3) := by decide +kernel
theorem dX16_query_98 : decode cX16_query 98 = .ok (.iconst 0, 1) := by decide +kernel
theorem dX16_query_99 : decode cX16_query 99 = .ok (.invokestatic 438, 3) := by decide +kernel
theorem dX16_query_102 : decode cX16_query 102 = .ok (.iinc 3 1, 3) := by decide +kernel
theorem dX16_query_105 : decode cX16_query 105 = .ok (.goto (-35), 3) := by decide +kernel
theorem dX16_query_108 : decode cX16_query 108 = .ok (.aload_n 0, 1) := by decide +kernel
theorem dX16_query_109 : decode cX16_query 109 = .ok (.iload_n 2, 1) := by decide +kernel
theorem dX16_query_110 : decode cX16_query 110 = .ok (.aload_n 0, 1) := by decide +kernel
theorem dX16_query_111 : decode cX16_query 111 = .ok (.getfield 294, 3) := by decide +kernel
theorem dX16_query_114 : decode cX16_query 114 = .ok (.bipush 15, 2) := by decide +kernel
theorem dX16_query_116 : decode cX16_query 116 = .ok (.iload_n 2, 1) := by decide +kernel
theorem dX16_query_117 : decode cX16_query 117 = .ok (.imul, 1) := by decide +kernel
theorem dX16_query_118 : decode cX16_query 118 = .ok (.iconst 1, 1) := by decide +kernel
theorem dX16_query_119 : decode cX16_query 119 = .ok (.invokevirtual 668, 3) := by decide +kernel
theorem dX16_query_122 : decode cX16_query 122 = .ok (.aload_n 0, 1) := by decide +kernel
theorem dX16_query_123 : decode cX16_query 123 = .ok (.iload_n 2, 1) := by decide +kernel
theorem dX16_query_124 : decode cX16_query 124 = .ok (.invokevirtual 726, 3) := by decide +kernel
theorem dX16_query_127 : decode cX16_query 127 = .ok (.aload_n 0, 1) := by decide +kernel
theorem dX16_query_128 : decode cX16_query 128 = .ok (.getfield 615, 3) := by decide +kernel
theorem dX16_query_131 : decode cX16_query 131 = .ok (.iconst 1, 1) := by decide +kernel
theorem dX16_query_132 : decode cX16_query 132 = .ok (.isub, 1) := by decide +kernel
theorem dX16_query_133 : decode cX16_query 133 = .ok (.ireturn, 1) := by decide +kernel
def j_X16_query_108 (x2 : Int) (V : VV) : Option (Int × VV) :=
  (f_X16_beginLookup x2 249 (15 * x2) 1 V).bind fun V1 =>
  (f_X16_proceed x2 V1).bind fun V2 =>
  some ((w32 (V2 156 91)) - 1, V2)
def b_X16_query_70 (x2 x3 : Int) (V : VV) : Option ((Int × VV) ⊕ (Int × VV)) :=
  if w32 x3 < w32 (w32 (V 156 28)) then
    (f_X16_hashFound x3 V).bind fun V1 =>
    (f_X16_put 249 (5 * ((3 * x2) + x3)) 161 0 V1).bind fun V2 =>
    cnt (x3 + 1, V2)
  else
    xit (j_X16_query_108 x2 V)
def l_X16_query_70 (x2 x3 : Int) (V : VV) : Option (Int × VV) := lpN (fun s : Int × VV => b_X16_query_70 x2 s.1 s.2) FU (x3, V)
def j_X16_query_42 (V : VV) : Option (Int × VV) :=
  some ((-1), V)
def f_X16_query (x1 : Int) (V : VV) : Option (Int × VV) :=
  (f_X16_terms V).bind fun V1 =>
  (p2 4 0 V1).bind fun V2 =>
  (f_X16_freePlace V2).bind fun v1 =>
  (f_X16_lives x1 V2).bind fun v2 =>
  if w32 v2 = 0 then
    j_X16_query_42 V2
  else
    if w32 v1 < 0 then
      j_X16_query_42 V2
    else
      if w32 (w32 (V2 156 28)) < w32 1 then
        j_X16_query_42 V2
      else
        if w32 3 < w32 (w32 (V2 156 28)) then
          j_X16_query_42 V2
        else
          (f_X16_open v1 3 x1 V2).bind fun V3 =>
          (s2 247 44 v1 (w32 (V3 156 28)) V3).bind fun V4 =>
          (s2 248 44 v1 0 V4).bind fun V5 =>
          l_X16_query_70 v1 0 V5
theorem s_X16_query_108 {g : GG} {d : Nat} (hD : 9 ≤ d) {x2 : Int} {M : MM} (hM : LM M) {V : VV} {o : AV × MM} {P : (Int × VV) → Prop} (r0 : ∀ r : Int × VV, P r → o = ((0, r.1), (wr M r.2))) {z : Int × VV} (h : j_X16_query_108 x2 V = some z) (hz : P z) : Sem g d YX16_query 108 [(1, 156), (9, 0), (0, x2), (9, 0)] [] (wr M V) o := by
  delta j_X16_query_108 at h
  refine S_aload_n (i := 0) dX16_query_108 rfl rfl ?_
  refine S_iload_n (i := 2) dX16_query_109 rfl rfl ?_
  refine S_aload_n (i := 0) dX16_query_110 rfl rfl ?_
  refine P2_gfr hM (a := 249) FLX16_294 rfl ⟨rfl, rfl⟩ dX16_query_111 ?_
  refine S_bipush (z := 15) dX16_query_114 rfl ?_
  refine S_iload_n (i := 2) dX16_query_116 rfl rfl ?_
  refine S_imul dX16_query_117 ?_
  refine S_iconst dX16_query_118 rfl ?_
  refine P2_invVm hM [(0, x2), (1, 249), (0, 15 * x2), (0, 1)] [] CVX16_beginLookup MLX16_668 dX16_query_119 rfl rfl rfl rfl (by omega) h (fun r h => F_X16_beginLookup (by omega) hM h) (fun V1 h => ?_)
  refine S_aload_n (i := 0) dX16_query_122 rfl rfl ?_
  refine S_iload_n (i := 2) dX16_query_123 rfl rfl ?_
  refine P2_invVm hM [(0, x2)] [] CVX16_proceed MLX16_726 dX16_query_124 rfl rfl rfl rfl (by omega) h (fun r h => F_X16_proceed (by omega) hM h) (fun V2 h => ?_)
  refine S_aload_n (i := 0) dX16_query_127 rfl rfl ?_
  refine P2_gfi hM FLX16_615 rfl dX16_query_128 ?_
  refine S_iconst dX16_query_131 rfl ?_
  refine S_isub dX16_query_132 ?_
  obtain rfl := r0 _ (some_P (P := fun r => P r) h hz)
  exact P_ret dX16_query_133 rfl (Or.inl rfl)
theorem s_X16_query_70 {g : GG} {d : Nat} (hD : 9 ≤ d) {x2 x3 : Int} {M : MM} (hM : LM M) {V : VV} {o : AV × MM} {P : ((Int × VV) ⊕ (Int × VV)) → Prop} (c0 : ∀ s : Int × VV, P (.inl s) → Sem g d YX16_query 70 [(1, 156), (9, 0), (0, x2), (0, s.1)] [] (wr M s.2) o) (r0 : ∀ r : Int × VV, P (.inr r) → o = ((0, r.1), (wr M r.2))) {z : (Int × VV) ⊕ (Int × VV)} (h : b_X16_query_70 x2 x3 V = some z) (hz : P z) : Sem g d YX16_query 70 [(1, 156), (9, 0), (0, x2), (0, x3)] [] (wr M V) o := by
  delta b_X16_query_70 at h
  refine S_iload_n (i := 3) dX16_query_70 rfl rfl ?_
  refine S_aload_n (i := 0) dX16_query_71 rfl rfl ?_
  refine P2_gfi hM FLX16_442 rfl dX16_query_72 ?_
  refine P_icmp_ge (tgt := 108) dX16_query_75 rfl h (fun h => ?_) (fun h => ?_)
  · refine S_weak (ls' := [(1, 156), (9, 0), (0, x2), (9, 0)]) ⟨Or.inr rfl, ⟨Or.inl rfl, ⟨Or.inr rfl, ⟨Or.inl rfl, trivial⟩⟩⟩⟩ ?_
    obtain ⟨z0, h, hz⟩ := xit_some' (P := fun r => P r) h hz
    exact s_X16_query_108 hD hM (P := fun r => P (.inr r)) r0 h hz
  · refine S_aload_n (i := 0) dX16_query_78 rfl rfl ?_
    refine S_iload_n (i := 3) dX16_query_79 rfl rfl ?_
    refine P2_invVm hM [(0, x3)] [] CVX16_hashFound MLX16_461 dX16_query_80 rfl rfl rfl rfl (by omega) h (fun r h => F_X16_hashFound (by omega) hM h) (fun V1 h => ?_)
    refine S_aload_n (i := 0) dX16_query_83 rfl rfl ?_
    refine P2_gfr hM (a := 249) FLX16_294 rfl ⟨rfl, rfl⟩ dX16_query_84 ?_
    refine S_iconst dX16_query_87 rfl ?_
    refine S_iconst dX16_query_88 rfl ?_
    refine S_iload_n (i := 2) dX16_query_89 rfl rfl ?_
    refine S_imul dX16_query_90 ?_
    refine S_iload_n (i := 3) dX16_query_91 rfl rfl ?_
    refine S_iadd dX16_query_92 ?_
    refine S_imul dX16_query_93 ?_
    refine S_aload_n (i := 0) dX16_query_94 rfl rfl ?_
    refine P2_gfr hM (a := 161) FLX16_22 rfl ⟨rfl, rfl⟩ dX16_query_95 ?_
    refine S_iconst dX16_query_98 rfl ?_
    refine P2_invSm hM [(1, 249), (0, 5 * ((3 * x2) + x3)), (1, 161), (0, 0)] [] CSX16_put MLX16_438 dX16_query_99 rfl rfl rfl rfl (by omega) h (fun r h => F_X16_put (by omega) hM h) (fun V2 h => ?_)
    refine S_iinc dX16_query_102 rfl rfl rfl ?_
    change Sem g d YX16_query 105 [(1, 156), (9, 0), (0, x2), (0, x3 + 1)] [] (wr M V2) o
    refine S_goto (tgt := 70) dX16_query_105 rfl ?_
    exact c0 (x3 + 1, V2) (some_P (P := fun r => P r) h hz)
theorem sl_X16_query_70 {g : GG} {d : Nat} (hD : 9 ≤ d) {x2 x3 : Int} {M : MM} (hM : LM M) {V : VV} {o : AV × MM} {P : (Int × VV) → Prop} (r0 : ∀ r : Int × VV, P r → o = ((0, r.1), (wr M r.2))) {z : Int × VV} (h : l_X16_query_70 x2 x3 V = some z) (hz : P z) : Sem g d YX16_query 70 [(1, 156), (9, 0), (0, x2), (0, x3)] [] (wr M V) o := by
  refine lp_sound (S := fun s : Int × VV => Sem g d YX16_query 70 [(1, 156), (9, 0), (0, x2), (0, s.1)] [] (wr M s.2) o) (P := P) ?_ FU (x3, V) z h hz
  intro s x hx hP
  exact s_X16_query_70 hD hM (P := Sum.elim (fun s : Int × VV => Sem g d YX16_query 70 [(1, 156), (9, 0), (0, x2), (0, s.1)] [] (wr M s.2) o) P) (fun s h => h) (fun s h => r0 s h) hx hP
theorem s_X16_query_42 {g : GG} {d : Nat} (hD : 9 ≤ d) {M : MM} (hM : LM M) {V : VV} {o : AV × MM} {P : (Int × VV) → Prop} (r0 : ∀ r : Int × VV, P r → o = ((0, r.1), (wr M r.2))) {z : Int × VV} (h : j_X16_query_42 V = some z) (hz : P z) : Sem g d YX16_query 42 [(9, 0), (9, 0), (9, 0), (9, 0)] [] (wr M V) o := by
  delta j_X16_query_42 at h
  refine S_iconst dX16_query_42 rfl ?_
  obtain rfl := r0 _ (some_P (P := fun r => P r) h hz)
  exact P_ret dX16_query_43 rfl (Or.inl rfl)
theorem s_X16_query_0 {g : GG} {d : Nat} (hD : 9 ≤ d) {x1 : Int} {M : MM} (hM : LM M) {V : VV} {o : AV × MM} {P : (Int × VV) → Prop} (r0 : ∀ r : Int × VV, P r → o = ((0, r.1), (wr M r.2))) {z : Int × VV} (h : f_X16_query x1 V = some z) (hz : P z) : Sem g d YX16_query 0 [(1, 156), (0, x1), (9, 0), (9, 0)] [] (wr M V) o := by
  delta f_X16_query at h
  refine S_aload_n (i := 0) dX16_query_0 rfl rfl ?_
  refine P2_invVm hM [] [] CVX16_terms MLX16_455 dX16_query_1 rfl rfl rfl rfl (by omega) h (fun r h => F_X16_terms (by omega) hM h) (fun V1 h => ?_)
  refine S_aload_n (i := 0) dX16_query_4 rfl rfl ?_
  refine S_iconst dX16_query_5 rfl ?_
  refine P2_pfi hM FLX16_387 FPX16_387 rfl dX16_query_6 h (fun V2 h => ?_)
  refine S_aload_n (i := 0) dX16_query_9 rfl rfl ?_
  refine P2_invVp hM 0 [] [] CVX16_freePlace MLX16_717 dX16_query_10 rfl rfl rfl rfl rfl (by omega) h (fun r h => F_X16_freePlace (by omega) hM h) (fun v1 h => ?_)
  refine S_istore_n (i := 2) dX16_query_13 rfl (Nat.le_of_ble_eq_true rfl) rfl rfl ?_
  change Sem g d YX16_query 14 [(1, 156), (0, x1), (0, v1), (9, 0)] [] (wr M V2) o
  refine S_aload_n (i := 0) dX16_query_14 rfl rfl ?_
  refine S_iload_n (i := 1) dX16_query_15 rfl rfl ?_
  refine P2_invVp hM 0 [(0, x1)] [] CVX16_lives MLX16_729 dX16_query_16 rfl rfl rfl rfl rfl (by omega) h (fun r h => F_X16_lives (by omega) hM h) (fun v2 h => ?_)
  refine P_if_eq (tgt := 42) dX16_query_19 rfl h (fun h => ?_) (fun h => ?_)
  · refine S_weak (ls' := [(9, 0), (9, 0), (9, 0), (9, 0)]) ⟨Or.inl rfl, ⟨Or.inl rfl, ⟨Or.inl rfl, ⟨Or.inl rfl, trivial⟩⟩⟩⟩ ?_
    exact s_X16_query_42 hD hM r0 h hz
  · refine S_iload_n (i := 2) dX16_query_22 rfl rfl ?_
    refine P_if_lt (tgt := 42) dX16_query_23 rfl h (fun h => ?_) (fun h => ?_)
    · refine S_weak (ls' := [(9, 0), (9, 0), (9, 0), (9, 0)]) ⟨Or.inl rfl, ⟨Or.inl rfl, ⟨Or.inl rfl, ⟨Or.inl rfl, trivial⟩⟩⟩⟩ ?_
      exact s_X16_query_42 hD hM r0 h hz
    · refine S_aload_n (i := 0) dX16_query_26 rfl rfl ?_
      refine P2_gfi hM FLX16_442 rfl dX16_query_27 ?_
      refine S_iconst dX16_query_30 rfl ?_
      refine P_icmp_lt (tgt := 42) dX16_query_31 rfl h (fun h => ?_) (fun h => ?_)
      · refine S_weak (ls' := [(9, 0), (9, 0), (9, 0), (9, 0)]) ⟨Or.inl rfl, ⟨Or.inl rfl, ⟨Or.inl rfl, ⟨Or.inl rfl, trivial⟩⟩⟩⟩ ?_
        exact s_X16_query_42 hD hM r0 h hz
      · refine S_aload_n (i := 0) dX16_query_34 rfl rfl ?_
        refine P2_gfi hM FLX16_442 rfl dX16_query_35 ?_
        refine S_iconst dX16_query_38 rfl ?_
        refine P_icmp_le (tgt := 44) dX16_query_39 rfl h (fun h => ?_) (fun h => ?_)
        · refine S_aload_n (i := 0) dX16_query_44 rfl rfl ?_
          refine S_iload_n (i := 2) dX16_query_45 rfl rfl ?_
          refine S_iconst dX16_query_46 rfl ?_
          refine S_iload_n (i := 1) dX16_query_47 rfl rfl ?_
          refine P2_invVm hM [(0, v1), (0, 3), (0, x1)] [] CVX16_open MLX16_720 dX16_query_48 rfl rfl rfl rfl (by omega) h (fun r h => F_X16_open (by omega) hM h) (fun V3 h => ?_)
          refine S_aload_n (i := 0) dX16_query_51 rfl rfl ?_
          refine P2_gfr hM (a := 247) FLX16_288 rfl ⟨rfl, rfl⟩ dX16_query_52 ?_
          refine S_iload_n (i := 2) dX16_query_55 rfl rfl ?_
          refine S_aload_n (i := 0) dX16_query_56 rfl rfl ?_
          refine P2_gfi hM FLX16_442 rfl dX16_query_57 ?_
          refine P2_sai hM (a := 247) (n := 44) rfl dX16_query_60 h (fun V4 h => ?_)
          refine S_aload_n (i := 0) dX16_query_61 rfl rfl ?_
          refine P2_gfr hM (a := 248) FLX16_291 rfl ⟨rfl, rfl⟩ dX16_query_62 ?_
          refine S_iload_n (i := 2) dX16_query_65 rfl rfl ?_
          refine S_iconst dX16_query_66 rfl ?_
          refine P2_sai hM (a := 248) (n := 44) rfl dX16_query_67 h (fun V5 h => ?_)
          refine S_iconst dX16_query_68 rfl ?_
          refine S_istore_n (i := 3) dX16_query_69 rfl (Nat.le_of_ble_eq_true rfl) rfl rfl ?_
          change Sem g d YX16_query 70 [(1, 156), (0, x1), (0, v1), (0, 0)] [] (wr M V5) o
          refine S_weak (ls' := [(1, 156), (9, 0), (0, v1), (0, 0)]) ⟨Or.inr rfl, ⟨Or.inl rfl, ⟨Or.inr rfl, ⟨Or.inr rfl, trivial⟩⟩⟩⟩ ?_
          exact sl_X16_query_70 hD hM r0 h hz
        · refine S_weak (ls' := [(9, 0), (9, 0), (9, 0), (9, 0)]) ⟨Or.inl rfl, ⟨Or.inl rfl, ⟨Or.inl rfl, ⟨Or.inl rfl, trivial⟩⟩⟩⟩ ?_
          exact s_X16_query_42 hD hM r0 h hz
theorem F_X16_query {g : GG} {d : Nat} (hD : 9 ≤ d) {x1 : Int} {M : MM} (hM : LM M) {V : VV} {r : Int × VV} (h : f_X16_query x1 V = some r) : Sem g d YX16_query 0 (ini YX16_query [(1, 156), (0, x1)]) [] (wr M V) ((0, r.1), (wr M r.2)) := by
  change Sem g d YX16_query 0 [(1, 156), (0, x1), (9, 0), (9, 0)] [] (wr M V) ((0, r.1), (wr M r.2))
  exact s_X16_query_0 hD hM (P := fun x => x = r) (fun q e => by rw [e]) h rfl
/-! PeerSearchModel.going()I -/
theorem dX16_going_0 : decode cX16_going 0 = .ok (.iconst 0, 1) := by decide +kernel
theorem dX16_going_1 : decode cX16_going 1 = .ok (.istore_n 1, 1) := by decide +kernel
theorem dX16_going_2 : decode cX16_going 2 = .ok (.iconst 0, 1) := by decide +kernel
theorem dX16_going_3 : decode cX16_going 3 = .ok (.istore_n 2, 1) := by decide +kernel
theorem dX16_going_4 : decode cX16_going 4 = .ok (.iload_n 2, 1) := by decide +kernel
theorem dX16_going_5 : decode cX16_going 5 = .ok (.bipush 44, 2) := by decide +kernel
theorem dX16_going_7 : decode cX16_going 7 = .ok (.if_icmp .ge 26, 3) := by decide +kernel
theorem dX16_going_10 : decode cX16_going 10 = .ok (.iload_n 1, 1) := by decide +kernel
theorem dX16_going_11 : decode cX16_going 11 = .ok (.aload_n 0, 1) := by decide +kernel
theorem dX16_going_12 : decode cX16_going 12 = .ok (.getfield 225, 3) := by decide +kernel
theorem dX16_going_15 : decode cX16_going 15 = .ok (.iload_n 2, 1) := by decide +kernel
theorem dX16_going_16 : decode cX16_going 16 = .ok (.baload, 1) := by decide +kernel
theorem dX16_going_17 : decode cX16_going 17 = .ok (.ifCond .eq 7, 3) := by decide +kernel
theorem dX16_going_20 : decode cX16_going 20 = .ok (.iconst 1, 1) := by decide +kernel
theorem dX16_going_21 : decode cX16_going 21 = .ok (.goto 4, 3) := by decide +kernel
theorem dX16_going_24 : decode cX16_going 24 = .ok (.iconst 0, 1) := by decide +kernel
theorem dX16_going_25 : decode cX16_going 25 = .ok (.iadd, 1) := by decide +kernel
theorem dX16_going_26 : decode cX16_going 26 = .ok (.istore_n 1, 1) := by decide +kernel
theorem dX16_going_27 : decode cX16_going 27 = .ok (.iinc 2 1, 3) := by decide +kernel
theorem dX16_going_30 : decode cX16_going 30 = .ok (.goto (-26), 3) := by decide +kernel
theorem dX16_going_33 : decode cX16_going 33 = .ok (.iload_n 1, 1) := by decide +kernel
theorem dX16_going_34 : decode cX16_going 34 = .ok (.ireturn, 1) := by decide +kernel
def j_X16_going_25 (x2 y0 y1 : Int) (V : VV) : Option ((Int × Int) ⊕ (Int)) :=
  cnt (y0 + y1, x2 + 1)
def b_X16_going_4 (x1 x2 : Int) (V : VV) : Option ((Int × Int) ⊕ (Int)) :=
  if w32 x2 < w32 44 then
    (l2 226 44 x2 V).bind fun v1 =>
    if w32 v1 = 0 then
      j_X16_going_25 x2 x1 0 V
    else
      j_X16_going_25 x2 x1 1 V
  else
    xit (some x1)
def l_X16_going_4 (x1 x2 : Int) (V : VV) : Option (Int) := lpN (fun s : Int × Int => b_X16_going_4 s.1 s.2 V) FU (x1, x2)
def f_X16_going (V : VV) : Option (Int) :=
  l_X16_going_4 0 0 V
theorem s_X16_going_25 {g : GG} {d : Nat} (hD : 0 ≤ d) {x2 y0 y1 : Int} {M : MM} (hM : LM M) {V : VV} {o : AV × MM} {P : ((Int × Int) ⊕ (Int)) → Prop} (c0 : ∀ s : Int × Int, P (.inl s) → Sem g d YX16_going 4 [(1, 156), (0, s.1), (0, s.2)] [] (wr M V) o) (r0 : ∀ r : Int, P (.inr r) → o = ((0, r), (wr M V))) {z : (Int × Int) ⊕ (Int)} (h : j_X16_going_25 x2 y0 y1 V = some z) (hz : P z) : Sem g d YX16_going 25 [(1, 156), (9, 0), (0, x2)] [(0, y1), (0, y0)] (wr M V) o := by
  delta j_X16_going_25 at h
  refine S_iadd dX16_going_25 ?_
  refine S_istore_n (i := 1) dX16_going_26 rfl (Nat.le_of_ble_eq_true rfl) rfl rfl ?_
  change Sem g d YX16_going 27 [(1, 156), (0, y0 + y1), (0, x2)] [] (wr M V) o
  refine S_iinc dX16_going_27 rfl rfl rfl ?_
  change Sem g d YX16_going 30 [(1, 156), (0, y0 + y1), (0, x2 + 1)] [] (wr M V) o
  refine S_goto (tgt := 4) dX16_going_30 rfl ?_
  exact c0 (y0 + y1, x2 + 1) (some_P (P := fun r => P r) h hz)
theorem s_X16_going_4 {g : GG} {d : Nat} (hD : 0 ≤ d) {x1 x2 : Int} {M : MM} (hM : LM M) {V : VV} {o : AV × MM} {P : ((Int × Int) ⊕ (Int)) → Prop} (c0 : ∀ s : Int × Int, P (.inl s) → Sem g d YX16_going 4 [(1, 156), (0, s.1), (0, s.2)] [] (wr M V) o) (r0 : ∀ r : Int, P (.inr r) → o = ((0, r), (wr M V))) {z : (Int × Int) ⊕ (Int)} (h : b_X16_going_4 x1 x2 V = some z) (hz : P z) : Sem g d YX16_going 4 [(1, 156), (0, x1), (0, x2)] [] (wr M V) o := by
  delta b_X16_going_4 at h
  refine S_iload_n (i := 2) dX16_going_4 rfl rfl ?_
  refine S_bipush (z := 44) dX16_going_5 rfl ?_
  refine P_icmp_ge (tgt := 33) dX16_going_7 rfl h (fun h => ?_) (fun h => ?_)
  · obtain ⟨z0, h, hz⟩ := xit_some' (P := fun r => P r) h hz
    refine S_iload_n (i := 1) dX16_going_33 rfl rfl ?_
    obtain rfl := r0 _ (some_P (P := fun r => P (.inr r)) h hz)
    exact P_ret dX16_going_34 rfl (Or.inl rfl)
  · refine S_iload_n (i := 1) dX16_going_10 rfl rfl ?_
    refine S_aload_n (i := 0) dX16_going_11 rfl rfl ?_
    refine P2_gfr hM (a := 226) FLX16_225 rfl ⟨rfl, rfl⟩ dX16_going_12 ?_
    refine S_iload_n (i := 2) dX16_going_15 rfl rfl ?_
    refine P2_laz hM (a := 226) (n := 44) rfl dX16_going_16 h (fun v1 h => ?_)
    refine P_if_eq (tgt := 24) dX16_going_17 rfl h (fun h => ?_) (fun h => ?_)
    · refine S_iconst dX16_going_24 rfl ?_
      refine S_weak (ls' := [(1, 156), (9, 0), (0, x2)]) ⟨Or.inr rfl, ⟨Or.inl rfl, ⟨Or.inr rfl, trivial⟩⟩⟩ ?_
      exact s_X16_going_25 hD hM c0 r0 h hz
    · refine S_iconst dX16_going_20 rfl ?_
      refine S_goto (tgt := 25) dX16_going_21 rfl ?_
      refine S_weak (ls' := [(1, 156), (9, 0), (0, x2)]) ⟨Or.inr rfl, ⟨Or.inl rfl, ⟨Or.inr rfl, trivial⟩⟩⟩ ?_
      exact s_X16_going_25 hD hM c0 r0 h hz
theorem sl_X16_going_4 {g : GG} {d : Nat} (hD : 0 ≤ d) {x1 x2 : Int} {M : MM} (hM : LM M) {V : VV} {o : AV × MM} {P : (Int) → Prop} (r0 : ∀ r : Int, P r → o = ((0, r), (wr M V))) {z : Int} (h : l_X16_going_4 x1 x2 V = some z) (hz : P z) : Sem g d YX16_going 4 [(1, 156), (0, x1), (0, x2)] [] (wr M V) o := by
  refine lp_sound (S := fun s : Int × Int => Sem g d YX16_going 4 [(1, 156), (0, s.1), (0, s.2)] [] (wr M V) o) (P := P) ?_ FU (x1, x2) z h hz
  intro s x hx hP
  exact s_X16_going_4 hD hM (P := Sum.elim (fun s : Int × Int => Sem g d YX16_going 4 [(1, 156), (0, s.1), (0, s.2)] [] (wr M V) o) P) (fun s h => h) (fun s h => r0 s h) hx hP
theorem s_X16_going_0 {g : GG} {d : Nat} (hD : 0 ≤ d) {M : MM} (hM : LM M) {V : VV} {o : AV × MM} {P : (Int) → Prop} (r0 : ∀ r : Int, P r → o = ((0, r), (wr M V))) {z : Int} (h : f_X16_going V = some z) (hz : P z) : Sem g d YX16_going 0 [(1, 156), (9, 0), (9, 0)] [] (wr M V) o := by
  delta f_X16_going at h
  refine S_iconst dX16_going_0 rfl ?_
  refine S_istore_n (i := 1) dX16_going_1 rfl (Nat.le_of_ble_eq_true rfl) rfl rfl ?_
  change Sem g d YX16_going 2 [(1, 156), (0, 0), (9, 0)] [] (wr M V) o
  refine S_iconst dX16_going_2 rfl ?_
  refine S_istore_n (i := 2) dX16_going_3 rfl (Nat.le_of_ble_eq_true rfl) rfl rfl ?_
  change Sem g d YX16_going 4 [(1, 156), (0, 0), (0, 0)] [] (wr M V) o
  exact sl_X16_going_4 hD hM r0 h hz
theorem F_X16_going {g : GG} {d : Nat} (hD : 0 ≤ d) {M : MM} (hM : LM M) {V : VV} {r : Int} (h : f_X16_going V = some r) : Sem g d YX16_going 0 (ini YX16_going [(1, 156)]) [] (wr M V) ((0, r), (wr M V)) := by
  change Sem g d YX16_going 0 [(1, 156), (9, 0), (9, 0)] [] (wr M V) ((0, r), (wr M V))
  exact s_X16_going_0 hD hM (P := fun x => x = r) (fun q e => by rw [e]) h rfl
/-! PeerSearchModel.background(I)V -/
theorem dX16_background_0 : decode cX16_background 0 = .ok (.bipush 12, 2) := by decide +kernel
theorem dX16_background_2 : decode cX16_background 2 = .ok (.iload_n 1, 1) := by decide +kernel
theorem dX16_background_3 : decode cX16_background 3 = .ok (.iadd, 1) := by decide +kernel
theorem dX16_background_4 : decode cX16_background 4 = .ok (.istore_n 2, 1) := by decide +kernel
theorem dX16_background_5 : decode cX16_background 5 = .ok (.aload_n 0, 1) := by decide +kernel
theorem dX16_background_6 : decode cX16_background 6 = .ok (.getfield 225, 3) := by decide +kernel
theorem dX16_background_9 : decode cX16_background 9 = .ok (.iload_n 2, 1) := by decide +kernel
theorem dX16_background_10 : decode cX16_background 10 = .ok (.baload, 1) := by decide +kernel
theorem dX16_background_11 : decode cX16_background 11 = .ok (.ifCond .eq 4, 3) := by decide +kernel
theorem dX16_background_14 : decode cX16_background 14 = .ok (.return_, 1) := by decide +kernel
theorem dX16_background_15 : decode cX16_background 15 = .ok (.aload_n 0, 1) := by decide +kernel
theorem dX16_background_16 : decode cX16_background 16 = .ok (.getfield 48, 3) := by decide +kernel
theorem dX16_background_19 : decode cX16_background 19 = .ok (.iload_n 1, 1) := by decide +kernel
theorem dX16_background_20 : decode cX16_background 20 = .ok (.iaload, 1) := by decide +kernel
theorem dX16_background_21 : decode cX16_background 21 = .ok (.aload_n 0, 1) := by decide +kernel
theorem dX16_background_22 : decode cX16_background 22 = .ok (.getfield 45, 3) := by decide +kernel
theorem dX16_background_25 : decode cX16_background 25 = .ok (.iload_n 1, 1) := by decide +kernel
theorem dX16_background_26 : decode cX16_background 26 = .ok (.iaload, 1) := by decide +kernel
theorem dX16_background_27 : decode cX16_background 27 = .ok (.if_icmp .le 12, 3) := by decide +kernel
theorem dX16_background_30 : decode cX16_background 30 = .ok (.aload_n 0, 1) := by decide +kernel
theorem dX16_background_31 : decode cX16_background 31 = .ok (.getfield 48, 3) := by decide +kernel
theorem dX16_background_34 : decode cX16_background 34 = .ok (.iload_n 1, 1) := by decide +kernel
theorem dX16_background_35 : decode cX16_background 35 = .ok (.iaload, 1) := by decide +kernel
theorem dX16_background_36 : decode cX16_background 36 = .ok (.goto 9, 3) := by decide +kernel
theorem dX16_background_39 : decode cX16_background 39 = .ok (.aload_n 0, 1) := by decide +kernel
theorem dX16_background_40 : decode cX16_background 40 = .ok (.getfield 45, 3) := by decide +kernel
theorem dX16_background_43 : decode cX16_background 43 = .ok (.iload_n 1, 1) := by decide +kernel
theorem dX16_background_44 : decode cX16_background 44 = .ok (.iaload, 1) := by decide +kernel
theorem dX16_background_45 : decode cX16_background 45 = .ok (.istore_n 3, 1) := by decide +kernel
theorem dX16_background_46 : decode cX16_background 46 = .ok (.aload_n 0, 1) := by decide +kernel
theorem dX16_background_47 : decode cX16_background 47 = .ok (.getfield 25, 3) := by decide +kernel
theorem dX16_background_50 : decode cX16_background 50 = .ok (.bipush 6, 2) := by decide +kernel
theorem dX16_background_52 : decode cX16_background 52 = .ok (.iaload, 1) := by decide +kernel
theorem dX16_background_53 : decode cX16_background 53 = .ok (.ifCond .le 35, 3) := by decide +kernel
theorem dX16_background_56 : decode cX16_background 56 = .ok (.aload_n 0, 1) := by decide +kernel
theorem dX16_background_57 : decode cX16_background 57 = .ok (.getfield 63, 3) := by decide +kernel
theorem dX16_background_60 : decode cX16_background 60 = .ok (.iload_n 1, 1) := by decide +kernel
theorem dX16_background_61 : decode cX16_background 61 = .ok (.iaload, 1) := by decide +kernel
theorem dX16_background_62 : decode cX16_background 62 = .ok (.ifCond .le 26, 3) := by decide +kernel
theorem dX16_background_65 : decode cX16_background 65 = .ok (.aload_n 0, 1) := by decide +kernel
theorem dX16_background_66 : decode cX16_background 66 = .ok (.getfield 483, 3) := by decide +kernel
theorem dX16_background_69 : decode cX16_background 69 = .ok (.iload_n 3, 1) := by decide +kernel
theorem dX16_background_70 : decode cX16_background 70 = .ok (.isub, 1) := by decide +kernel
theorem dX16_background_71 : decode cX16_background 71 = .ok (.aload_n 0, 1) := by decide +kernel
theorem dX16_background_72 : decode cX16_background 72 = .ok (.getfield 25, 3) := by decide +kernel
theorem dX16_background_75 : decode cX16_background 75 = .ok (.bipush 6, 2) := by decide +kernel
theorem dX16_background_77 : decode cX16_background 77 = .ok (.iaload, 1) := by decide +kernel
theorem dX16_background_78 : decode cX16_background 78 = .ok (.if_icmp .lt 10, 3) := by decide +kernel
theorem dX16_background_81 : decode cX16_background 81 = .ok (.aload_n 0, 1) := by decide +kernel
theorem dX16_background_82 : decode cX16_background 82 = .ok (.iload_n 2, 1) := by decide +kernel
theorem dX16_background_83 : decode cX16_background 83 = .ok (.iload_n 1, 1) := by decide +kernel
theorem dX16_background_84 : decode cX16_background 84 = .ok (.invokevirtual 739, 3) := by decide +kernel
theorem dX16_background_87 : decode cX16_background 87 = .ok (.return_, 1) := by decide +kernel
theorem dX16_background_88 : decode cX16_background 88 = .ok (.aload_n 0, 1) := by decide +kernel
theorem dX16_background_89 : decode cX16_background 89 = .ok (.getfield 51, 3) := by decide +kernel
theorem dX16_background_92 : decode cX16_background 92 = .ok (.iload_n 1, 1) := by decide +kernel
theorem dX16_background_93 : decode cX16_background 93 = .ok (.iaload, 1) := by decide +kernel
theorem dX16_background_94 : decode cX16_background 94 = .ok (.aload_n 0, 1) := by decide +kernel
theorem dX16_background_95 : decode cX16_background 95 = .ok (.getfield 45, 3) := by decide +kernel
theorem dX16_background_98 : decode cX16_background 98 = .ok (.iload_n 1, 1) := by decide +kernel
theorem dX16_background_99 : decode cX16_background 99 = .ok (.iaload, 1) := by decide +kernel
theorem dX16_background_100 : decode cX16_background 100 = .ok (.if_icmp .le 12, 3) := by decide +kernel
theorem dX16_background_103 : decode cX16_background 103 = .ok (.aload_n 0, 1) := by decide +kernel
theorem dX16_background_104 : decode cX16_background 104 = .ok (.getfield 51, 3) := by decide +kernel
theorem dX16_background_107 : decode cX16_background 107 = .ok (.iload_n 1, 1) := by decide +kernel
theorem dX16_background_108 : decode cX16_background 108 = .ok (.iaload, 1) := by decide +kernel
theorem dX16_background_109 : decode cX16_background 109 = .ok (.goto 9, 3) := by decide +kernel
theorem dX16_background_112 : decode cX16_background 112 = .ok (.aload_n 0, 1) := by decide +kernel
theorem dX16_background_113 : decode cX16_background 113 = .ok (.getfield 45, 3) := by decide +kernel
theorem dX16_background_116 : decode cX16_background 116 = .ok (.iload_n 1, 1) := by decide +kernel
theorem dX16_background_117 : decode cX16_background 117 = .ok (.iaload, 1) := by decide +kernel
theorem dX16_background_118 : decode cX16_background 118 = .ok (.istore_n 3, 1) := by decide +kernel
theorem dX16_background_119 : decode cX16_background 119 = .ok (.aload_n 0, 1) := by decide +kernel
theorem dX16_background_120 : decode cX16_background 120 = .ok (.getfield 25, 3) := by decide +kernel
theorem dX16_background_123 : decode cX16_background 123 = .ok (.bipush 8, 2) := by decide +kernel
theorem dX16_background_125 : decode cX16_background 125 = .ok (.iaload, 1) := by decide +kernel
theorem dX16_background_126 : decode cX16_background 126 = .ok (.ifCond .le 46, 3) := by decide +kernel
theorem dX16_background_129 : decode cX16_background 129 = .ok (.aload_n 0, 1) := by decide +kernel
theorem dX16_background_130 : decode cX16_background 130 = .ok (.getfield 483, 3) := by decide +kernel
theorem dX16_background_133 : decode cX16_background 133 = .ok (.iload_n 3, 1) := by decide +kernel
theorem dX16_background_134 : decode cX16_background 134 = .ok (.isub, 1) := by decide +kernel
theorem dX16_background_135 : decode cX16_background 135 = .ok (.aload_n 0, 1) := by decide +kernel
theorem dX16_background_136 : decode cX16_background 136 = .ok (.getfield 25, 3) := by decide +kernel
theorem dX16_background_139 : decode cX16_background 139 = .ok (.bipush 8, 2) := by decide +kernel
theorem dX16_background_141 : decode cX16_background 141 = .ok (.iaload, 1) := by decide +kernel
theorem dX16_background_142 : decode cX16_background 142 = .ok (.if_icmp .lt 30, 3) := by decide +kernel
theorem dX16_background_145 : decode cX16_background 145 = .ok (.aload_n 0, 1) := by decide +kernel
theorem dX16_background_146 : decode cX16_background 146 = .ok (.getfield 51, 3) := by decide +kernel
theorem dX16_background_149 : decode cX16_background 149 = .ok (.iload_n 1, 1) := by decide +kernel
theorem dX16_background_150 : decode cX16_background 150 = .ok (.aload_n 0, 1) := by decide +kernel
theorem dX16_background_151 : decode cX16_background 151 = .ok (.getfield 483, 3) := by decide +kernel
theorem dX16_background_154 : decode cX16_background 154 = .ok (.iastore, 1) := by decide +kernel
theorem dX16_background_155 : decode cX16_background 155 = .ok (.aload_n 0, 1) := by decide +kernel
theorem dX16_background_156 : decode cX16_background 156 = .ok (.iload_n 2, 1) := by decide +kernel
theorem dX16_background_157 : decode cX16_background 157 = .ok (.iconst 4, 1) := by decide +kernel
theorem dX16_background_158 : decode cX16_background 158 = .ok (.iload_n 1, 1) := by decide +kernel
theorem dX16_background_159 : decode cX16_background 159 = .ok (.invokevirtual 720, 3) := by decide +kernel
theorem dX16_background_162 : decode cX16_background 162 = .ok (.aload_n 0, 1) := by decide +kernel
theorem dX16_background_163 : decode cX16_background 163 = .ok (.iload_n 2, 1) := by decide +kernel
theorem dX16_background_164 : decode cX16_background 164 = .ok (.invokevirtual 653, 3) := by decide +kernel
theorem dX16_background_167 : decode cX16_background 167 = .ok (.aload_n 0, 1) := by decide +kernel
theorem dX16_background_168 : decode cX16_background 168 = .ok (.iload_n 2, 1) := by decide +kernel
theorem dX16_background_169 : decode cX16_background 169 = .ok (.invokevirtual 726, 3) := by decide +kernel
theorem dX16_background_172 : decode cX16_background 172 = .ok (.return_, 1) := by decide +kernel
def j_X16_background_172 (V : VV) : Option (VV) :=
  some V
def j_X16_background_118 (x1 x2 y0 : Int) (V : VV) : Option (VV) :=
  (l2 162 11 8 V).bind fun v1 =>
  if 0 < w32 v1 then
    (l2 162 11 8 V).bind fun v2 =>
    if w32 ((w32 (V 156 11)) - y0) < w32 v2 then
      j_X16_background_172 V
    else
      (s2 170 32 x1 (w32 (V 156 11)) V).bind fun V1 =>
      (f_X16_open x2 4 x1 V1).bind fun V2 =>
      (f_X16_beginRefresh x2 V2).bind fun V3 =>
      (f_X16_proceed x2 V3).bind fun V4 =>
      j_X16_background_172 V4
  else
    j_X16_background_172 V
def j_X16_background_88 (x1 x2 : Int) (V : VV) : Option (VV) :=
  (l2 170 32 x1 V).bind fun v1 =>
  (l2 168 32 x1 V).bind fun v2 =>
  if w32 v2 < w32 v1 then
    (l2 170 32 x1 V).bind fun v4 =>
    j_X16_background_118 x1 x2 v4 V
  else
    (l2 168 32 x1 V).bind fun v3 =>
    j_X16_background_118 x1 x2 v3 V
def j_X16_background_45 (x1 x2 y0 : Int) (V : VV) : Option (VV) :=
  (l2 162 11 6 V).bind fun v1 =>
  if 0 < w32 v1 then
    (l2 174 32 x1 V).bind fun v2 =>
    if 0 < w32 v2 then
      (l2 162 11 6 V).bind fun v3 =>
      if w32 ((w32 (V 156 11)) - y0) < w32 v3 then
        j_X16_background_88 x1 x2 V
      else
        (f_X16_beginPublish x2 x1 V).bind fun V1 =>
        some V1
    else
      j_X16_background_88 x1 x2 V
  else
    j_X16_background_88 x1 x2 V
def f_X16_background (x1 : Int) (V : VV) : Option (VV) :=
  (l2 226 44 (12 + x1) V).bind fun v1 =>
  if w32 v1 = 0 then
    (l2 169 32 x1 V).bind fun v2 =>
    (l2 168 32 x1 V).bind fun v3 =>
    if w32 v3 < w32 v2 then
      (l2 169 32 x1 V).bind fun v5 =>
      j_X16_background_45 x1 (12 + x1) v5 V
    else
      (l2 168 32 x1 V).bind fun v4 =>
      j_X16_background_45 x1 (12 + x1) v4 V
  else
    some V
theorem s_X16_background_172 {g : GG} {d : Nat} (hD : 10 ≤ d) {M : MM} (hM : LM M) {V : VV} {o : AV × MM} {P : (VV) → Prop} (r0 : ∀ r : VV, P r → o = ((9, 0), (wr M r))) {z : VV} (h : j_X16_background_172 V = some z) (hz : P z) : Sem g d YX16_background 172 [(9, 0), (9, 0), (9, 0), (9, 0)] [] (wr M V) o := by
  delta j_X16_background_172 at h
  obtain rfl := r0 _ (some_P (P := fun r => P r) h hz)
  exact S_return dX16_background_172 rfl
theorem s_X16_background_118 {g : GG} {d : Nat} (hD : 10 ≤ d) {x1 x2 y0 : Int} {M : MM} (hM : LM M) {V : VV} {o : AV × MM} {P : (VV) → Prop} (r0 : ∀ r : VV, P r → o = ((9, 0), (wr M r))) {z : VV} (h : j_X16_background_118 x1 x2 y0 V = some z) (hz : P z) : Sem g d YX16_background 118 [(1, 156), (0, x1), (0, x2), (9, 0)] [(0, y0)] (wr M V) o := by
  delta j_X16_background_118 at h
  refine S_istore_n (i := 3) dX16_background_118 rfl (Nat.le_of_ble_eq_true rfl) rfl rfl ?_
  change Sem g d YX16_background 119 [(1, 156), (0, x1), (0, x2), (0, y0)] [] (wr M V) o
  refine S_aload_n (i := 0) dX16_background_119 rfl rfl ?_
  refine P2_gfr hM (a := 162) FLX16_25 rfl ⟨rfl, rfl⟩ dX16_background_120 ?_
  refine S_bipush (z := 8) dX16_background_123 rfl ?_
  refine P2_lai hM (a := 162) (n := 11) rfl dX16_background_125 h (fun v1 h => ?_)
  refine P_if_le (tgt := 172) dX16_background_126 rfl h (fun h => ?_) (fun h => ?_)
  · refine S_weak (ls' := [(9, 0), (9, 0), (9, 0), (9, 0)]) ⟨Or.inl rfl, ⟨Or.inl rfl, ⟨Or.inl rfl, ⟨Or.inl rfl, trivial⟩⟩⟩⟩ ?_
    exact s_X16_background_172 hD hM r0 h hz
  · refine S_aload_n (i := 0) dX16_background_129 rfl rfl ?_
    refine P2_gfi hM FLX16_483 rfl dX16_background_130 ?_
    refine S_iload_n (i := 3) dX16_background_133 rfl rfl ?_
    refine S_isub dX16_background_134 ?_
    refine S_aload_n (i := 0) dX16_background_135 rfl rfl ?_
    refine P2_gfr hM (a := 162) FLX16_25 rfl ⟨rfl, rfl⟩ dX16_background_136 ?_
    refine S_bipush (z := 8) dX16_background_139 rfl ?_
    refine P2_lai hM (a := 162) (n := 11) rfl dX16_background_141 h (fun v2 h => ?_)
    refine P_icmp_lt (tgt := 172) dX16_background_142 rfl h (fun h => ?_) (fun h => ?_)
    · refine S_weak (ls' := [(9, 0), (9, 0), (9, 0), (9, 0)]) ⟨Or.inl rfl, ⟨Or.inl rfl, ⟨Or.inl rfl, ⟨Or.inl rfl, trivial⟩⟩⟩⟩ ?_
      exact s_X16_background_172 hD hM r0 h hz
    · refine S_aload_n (i := 0) dX16_background_145 rfl rfl ?_
      refine P2_gfr hM (a := 170) FLX16_51 rfl ⟨rfl, rfl⟩ dX16_background_146 ?_
      refine S_iload_n (i := 1) dX16_background_149 rfl rfl ?_
      refine S_aload_n (i := 0) dX16_background_150 rfl rfl ?_
      refine P2_gfi hM FLX16_483 rfl dX16_background_151 ?_
      refine P2_sai hM (a := 170) (n := 32) rfl dX16_background_154 h (fun V1 h => ?_)
      refine S_aload_n (i := 0) dX16_background_155 rfl rfl ?_
      refine S_iload_n (i := 2) dX16_background_156 rfl rfl ?_
      refine S_iconst dX16_background_157 rfl ?_
      refine S_iload_n (i := 1) dX16_background_158 rfl rfl ?_
      refine P2_invVm hM [(0, x2), (0, 4), (0, x1)] [] CVX16_open MLX16_720 dX16_background_159 rfl rfl rfl rfl (by omega) h (fun r h => F_X16_open (by omega) hM h) (fun V2 h => ?_)
      refine S_aload_n (i := 0) dX16_background_162 rfl rfl ?_
      refine S_iload_n (i := 2) dX16_background_163 rfl rfl ?_
      refine P2_invVm hM [(0, x2)] [] CVX16_beginRefresh MLX16_653 dX16_background_164 rfl rfl rfl rfl (by omega) h (fun r h => F_X16_beginRefresh (by omega) hM h) (fun V3 h => ?_)
      refine S_aload_n (i := 0) dX16_background_167 rfl rfl ?_
      refine S_iload_n (i := 2) dX16_background_168 rfl rfl ?_
      refine P2_invVm hM [(0, x2)] [] CVX16_proceed MLX16_726 dX16_background_169 rfl rfl rfl rfl (by omega) h (fun r h => F_X16_proceed (by omega) hM h) (fun V4 h => ?_)
      refine S_weak (ls' := [(9, 0), (9, 0), (9, 0), (9, 0)]) ⟨Or.inl rfl, ⟨Or.inl rfl, ⟨Or.inl rfl, ⟨Or.inl rfl, trivial⟩⟩⟩⟩ ?_
      exact s_X16_background_172 hD hM r0 h hz
theorem s_X16_background_88 {g : GG} {d : Nat} (hD : 10 ≤ d) {x1 x2 : Int} {M : MM} (hM : LM M) {V : VV} {o : AV × MM} {P : (VV) → Prop} (r0 : ∀ r : VV, P r → o = ((9, 0), (wr M r))) {z : VV} (h : j_X16_background_88 x1 x2 V = some z) (hz : P z) : Sem g d YX16_background 88 [(1, 156), (0, x1), (0, x2), (9, 0)] [] (wr M V) o := by
  delta j_X16_background_88 at h
  refine S_aload_n (i := 0) dX16_background_88 rfl rfl ?_
  refine P2_gfr hM (a := 170) FLX16_51 rfl ⟨rfl, rfl⟩ dX16_background_89 ?_
  refine S_iload_n (i := 1) dX16_background_92 rfl rfl ?_
  refine P2_lai hM (a := 170) (n := 32) rfl dX16_background_93 h (fun v1 h => ?_)
  refine S_aload_n (i := 0) dX16_background_94 rfl rfl ?_
  refine P2_gfr hM (a := 168) FLX16_45 rfl ⟨rfl, rfl⟩ dX16_background_95 ?_
  refine S_iload_n (i := 1) dX16_background_98 rfl rfl ?_
  refine P2_lai hM (a := 168) (n := 32) rfl dX16_background_99 h (fun v2 h => ?_)
  refine P_icmp_le (tgt := 112) dX16_background_100 rfl h (fun h => ?_) (fun h => ?_)
  · refine S_aload_n (i := 0) dX16_background_112 rfl rfl ?_
    refine P2_gfr hM (a := 168) FLX16_45 rfl ⟨rfl, rfl⟩ dX16_background_113 ?_
    refine S_iload_n (i := 1) dX16_background_116 rfl rfl ?_
    refine P2_lai hM (a := 168) (n := 32) rfl dX16_background_117 h (fun v3 h => ?_)
    exact s_X16_background_118 hD hM r0 h hz
  · refine S_aload_n (i := 0) dX16_background_103 rfl rfl ?_
    refine P2_gfr hM (a := 170) FLX16_51 rfl ⟨rfl, rfl⟩ dX16_background_104 ?_
    refine S_iload_n (i := 1) dX16_background_107 rfl rfl ?_
    refine P2_lai hM (a := 170) (n := 32) rfl dX16_background_108 h (fun v4 h => ?_)
    refine S_goto (tgt := 118) dX16_background_109 rfl ?_
    exact s_X16_background_118 hD hM r0 h hz
theorem s_X16_background_45 {g : GG} {d : Nat} (hD : 10 ≤ d) {x1 x2 y0 : Int} {M : MM} (hM : LM M) {V : VV} {o : AV × MM} {P : (VV) → Prop} (r0 : ∀ r : VV, P r → o = ((9, 0), (wr M r))) {z : VV} (h : j_X16_background_45 x1 x2 y0 V = some z) (hz : P z) : Sem g d YX16_background 45 [(1, 156), (0, x1), (0, x2), (9, 0)] [(0, y0)] (wr M V) o := by
  delta j_X16_background_45 at h
  refine S_istore_n (i := 3) dX16_background_45 rfl (Nat.le_of_ble_eq_true rfl) rfl rfl ?_
  change Sem g d YX16_background 46 [(1, 156), (0, x1), (0, x2), (0, y0)] [] (wr M V) o
  refine S_aload_n (i := 0) dX16_background_46 rfl rfl ?_
  refine P2_gfr hM (a := 162) FLX16_25 rfl ⟨rfl, rfl⟩ dX16_background_47 ?_
  refine S_bipush (z := 6) dX16_background_50 rfl ?_
  refine P2_lai hM (a := 162) (n := 11) rfl dX16_background_52 h (fun v1 h => ?_)
  refine P_if_le (tgt := 88) dX16_background_53 rfl h (fun h => ?_) (fun h => ?_)
  · refine S_weak (ls' := [(1, 156), (0, x1), (0, x2), (9, 0)]) ⟨Or.inr rfl, ⟨Or.inr rfl, ⟨Or.inr rfl, ⟨Or.inl rfl, trivial⟩⟩⟩⟩ ?_
    exact s_X16_background_88 hD hM r0 h hz
  · refine S_aload_n (i := 0) dX16_background_56 rfl rfl ?_
    refine P2_gfr hM (a := 174) FLX16_63 rfl ⟨rfl, rfl⟩ dX16_background_57 ?_
    refine S_iload_n (i := 1) dX16_background_60 rfl rfl ?_
    refine P2_lai hM (a := 174) (n := 32) rfl dX16_background_61 h (fun v2 h => ?_)
    refine P_if_le (tgt := 88) dX16_background_62 rfl h (fun h => ?_) (fun h => ?_)
    · refine S_weak (ls' := [(1, 156), (0, x1), (0, x2), (9, 0)]) ⟨Or.inr rfl, ⟨Or.inr rfl, ⟨Or.inr rfl, ⟨Or.inl rfl, trivial⟩⟩⟩⟩ ?_
      exact s_X16_background_88 hD hM r0 h hz
    · refine S_aload_n (i := 0) dX16_background_65 rfl rfl ?_
      refine P2_gfi hM FLX16_483 rfl dX16_background_66 ?_
      refine S_iload_n (i := 3) dX16_background_69 rfl rfl ?_
      refine S_isub dX16_background_70 ?_
      refine S_aload_n (i := 0) dX16_background_71 rfl rfl ?_
      refine P2_gfr hM (a := 162) FLX16_25 rfl ⟨rfl, rfl⟩ dX16_background_72 ?_
      refine S_bipush (z := 6) dX16_background_75 rfl ?_
      refine P2_lai hM (a := 162) (n := 11) rfl dX16_background_77 h (fun v3 h => ?_)
      refine P_icmp_lt (tgt := 88) dX16_background_78 rfl h (fun h => ?_) (fun h => ?_)
      · refine S_weak (ls' := [(1, 156), (0, x1), (0, x2), (9, 0)]) ⟨Or.inr rfl, ⟨Or.inr rfl, ⟨Or.inr rfl, ⟨Or.inl rfl, trivial⟩⟩⟩⟩ ?_
        exact s_X16_background_88 hD hM r0 h hz
      · refine S_aload_n (i := 0) dX16_background_81 rfl rfl ?_
        refine S_iload_n (i := 2) dX16_background_82 rfl rfl ?_
        refine S_iload_n (i := 1) dX16_background_83 rfl rfl ?_
        refine P2_invVm hM [(0, x2), (0, x1)] [] CVX16_beginPublish MLX16_739 dX16_background_84 rfl rfl rfl rfl (by omega) h (fun r h => F_X16_beginPublish (by omega) hM h) (fun V1 h => ?_)
        obtain rfl := r0 _ (some_P (P := fun r => P r) h hz)
        exact S_return dX16_background_87 rfl
theorem s_X16_background_0 {g : GG} {d : Nat} (hD : 10 ≤ d) {x1 : Int} {M : MM} (hM : LM M) {V : VV} {o : AV × MM} {P : (VV) → Prop} (r0 : ∀ r : VV, P r → o = ((9, 0), (wr M r))) {z : VV} (h : f_X16_background x1 V = some z) (hz : P z) : Sem g d YX16_background 0 [(1, 156), (0, x1), (9, 0), (9, 0)] [] (wr M V) o := by
  delta f_X16_background at h
  refine S_bipush (z := 12) dX16_background_0 rfl ?_
  refine S_iload_n (i := 1) dX16_background_2 rfl rfl ?_
  refine S_iadd dX16_background_3 ?_
  refine S_istore_n (i := 2) dX16_background_4 rfl (Nat.le_of_ble_eq_true rfl) rfl rfl ?_
  change Sem g d YX16_background 5 [(1, 156), (0, x1), (0, 12 + x1), (9, 0)] [] (wr M V) o
  refine S_aload_n (i := 0) dX16_background_5 rfl rfl ?_
  refine P2_gfr hM (a := 226) FLX16_225 rfl ⟨rfl, rfl⟩ dX16_background_6 ?_
  refine S_iload_n (i := 2) dX16_background_9 rfl rfl ?_
  refine P2_laz hM (a := 226) (n := 44) rfl dX16_background_10 h (fun v1 h => ?_)
  refine P_if_eq (tgt := 15) dX16_background_11 rfl h (fun h => ?_) (fun h => ?_)
  · refine S_aload_n (i := 0) dX16_background_15 rfl rfl ?_
    refine P2_gfr hM (a := 169) FLX16_48 rfl ⟨rfl, rfl⟩ dX16_background_16 ?_
    refine S_iload_n (i := 1) dX16_background_19 rfl rfl ?_
    refine P2_lai hM (a := 169) (n := 32) rfl dX16_background_20 h (fun v2 h => ?_)
    refine S_aload_n (i := 0) dX16_background_21 rfl rfl ?_
    refine P2_gfr hM (a := 168) FLX16_45 rfl ⟨rfl, rfl⟩ dX16_background_22 ?_
    refine S_iload_n (i := 1) dX16_background_25 rfl rfl ?_
    refine P2_lai hM (a := 168) (n := 32) rfl dX16_background_26 h (fun v3 h => ?_)
    refine P_icmp_le (tgt := 39) dX16_background_27 rfl h (fun h => ?_) (fun h => ?_)
    · refine S_aload_n (i := 0) dX16_background_39 rfl rfl ?_
      refine P2_gfr hM (a := 168) FLX16_45 rfl ⟨rfl, rfl⟩ dX16_background_40 ?_
      refine S_iload_n (i := 1) dX16_background_43 rfl rfl ?_
      refine P2_lai hM (a := 168) (n := 32) rfl dX16_background_44 h (fun v4 h => ?_)
      exact s_X16_background_45 hD hM r0 h hz
    · refine S_aload_n (i := 0) dX16_background_30 rfl rfl ?_
      refine P2_gfr hM (a := 169) FLX16_48 rfl ⟨rfl, rfl⟩ dX16_background_31 ?_
      refine S_iload_n (i := 1) dX16_background_34 rfl rfl ?_
      refine P2_lai hM (a := 169) (n := 32) rfl dX16_background_35 h (fun v5 h => ?_)
      refine S_goto (tgt := 45) dX16_background_36 rfl ?_
      exact s_X16_background_45 hD hM r0 h hz
  · obtain rfl := r0 _ (some_P (P := fun r => P r) h hz)
    exact S_return dX16_background_14 rfl
theorem F_X16_background {g : GG} {d : Nat} (hD : 10 ≤ d) {x1 : Int} {M : MM} (hM : LM M) {V : VV} {r : VV} (h : f_X16_background x1 V = some r) : Sem g d YX16_background 0 (ini YX16_background [(1, 156), (0, x1)]) [] (wr M V) ((9, 0), (wr M r)) := by
  change Sem g d YX16_background 0 [(1, 156), (0, x1), (9, 0), (9, 0)] [] (wr M V) ((9, 0), (wr M r))
  exact s_X16_background_0 hD hM (P := fun x => x = r) (fun q e => by rw [e]) h rfl
/-! PeerSearchModel.keyAt([II)V -/
theorem dX16_keyAt_0 : decode cX16_keyAt 0 = .ok (.iconst 0, 1) := by decide +kernel
theorem dX16_keyAt_1 : decode cX16_keyAt 1 = .ok (.istore_n 3, 1) := by decide +kernel
theorem dX16_keyAt_2 : decode cX16_keyAt 2 = .ok (.iload_n 3, 1) := by decide +kernel
theorem dX16_keyAt_3 : decode cX16_keyAt 3 = .ok (.iconst 5, 1) := by decide +kernel
theorem dX16_keyAt_4 : decode cX16_keyAt 4 = .ok (.if_icmp .ge 65, 3) := by decide +kernel
theorem dX16_keyAt_7 : decode cX16_keyAt 7 = .ok (.iload_n 2, 1) := by decide +kernel
theorem dX16_keyAt_8 : decode cX16_keyAt 8 = .ok (.iconst 4, 1) := by decide +kernel
theorem dX16_keyAt_9 : decode cX16_keyAt 9 = .ok (.iload_n 3, 1) := by decide +kernel
theorem dX16_keyAt_10 : decode cX16_keyAt 10 = .ok (.imul, 1) := by decide +kernel
theorem dX16_keyAt_11 : decode cX16_keyAt 11 = .ok (.iadd, 1) := by decide +kernel
theorem dX16_keyAt_12 : decode cX16_keyAt 12 = .ok (.istore 4, 2) := by decide +kernel
theorem dX16_keyAt_14 : decode cX16_keyAt 14 = .ok (.aload_n 1, 1) := by decide +kernel
theorem dX16_keyAt_15 : decode cX16_keyAt 15 = .ok (.iload_n 3, 1) := by decide +kernel
theorem dX16_keyAt_16 : decode cX16_keyAt 16 = .ok (.aload_n 0, 1) := by decide +kernel
theorem dX16_keyAt_17 : decode cX16_keyAt 17 = .ok (.getfield 361, 3) := by decide +kernel
theorem dX16_keyAt_20 : decode cX16_keyAt 20 = .ok (.iload 4, 2) := by decide +kernel
theorem dX16_keyAt_22 : decode cX16_keyAt 22 = .ok (.iaload, 1) := by decide +kernel
theorem dX16_keyAt_23 : decode cX16_keyAt 23 = .ok (.bipush 24, 2) := by decide +kernel
theorem dX16_keyAt_25 : decode cX16_keyAt 25 = .ok (.ishl, 1) := by decide +kernel
theorem dX16_keyAt_26 : decode cX16_keyAt 26 = .ok (.aload_n 0, 1) := by decide +kernel
theorem dX16_keyAt_27 : decode cX16_keyAt 27 = .ok (.getfield 361, 3) := by decide +kernel
theorem dX16_keyAt_30 : decode cX16_keyAt 30 = .ok (.iload 4, 2) := by decide +kernel
theorem dX16_keyAt_32 : decode cX16_keyAt 32 = .ok (.iconst 1, 1) := by decide +kernel
theorem dX16_keyAt_33 : decode cX16_keyAt 33 = .ok (.iadd, 1) := by decide +kernel
theorem dX16_keyAt_34 : decode cX16_keyAt 34 = .ok (.iaload, 1) := by decide +kernel
theorem dX16_keyAt_35 : decode cX16_keyAt 35 = .ok (.bipush 16, 2) := by decide +kernel
theorem dX16_keyAt_37 : decode cX16_keyAt 37 = .ok (.ishl, 1) := by decide +kernel
theorem dX16_keyAt_38 : decode cX16_keyAt 38 = .ok (.ior, 1) := by decide +kernel
theorem dX16_keyAt_39 : decode cX16_keyAt 39 = .ok (.aload_n 0, 1) := by decide +kernel
theorem dX16_keyAt_40 : decode cX16_keyAt 40 = .ok (.getfield 361, 3) := by decide +kernel
theorem dX16_keyAt_43 : decode cX16_keyAt 43 = .ok (.iload 4, 2) := by decide +kernel
theorem dX16_keyAt_45 : decode cX16_keyAt 45 = .ok (.iconst 2, 1) := by decide +kernel
theorem dX16_keyAt_46 : decode cX16_keyAt 46 = .ok (.iadd, 1) := by decide +kernel
theorem dX16_keyAt_47 : decode cX16_keyAt 47 = .ok (.iaload, 1) := by decide +kernel
theorem dX16_keyAt_48 : decode cX16_keyAt 48 = .ok (.bipush 8, 2) := by decide +kernel
theorem dX16_keyAt_50 : decode cX16_keyAt 50 = .ok (.ishl, 1) := by decide +kernel
theorem dX16_keyAt_51 : decode cX16_keyAt 51 = .ok (.ior, 1) := by decide +kernel
theorem dX16_keyAt_52 : decode cX16_keyAt 52 = .ok (.aload_n 0, 1) := by decide +kernel
theorem dX16_keyAt_53 : decode cX16_keyAt 53 = .ok (.getfield 361, 3) := by decide +kernel
theorem dX16_keyAt_56 : decode cX16_keyAt 56 = .ok (.iload 4, 2) := by decide +kernel
theorem dX16_keyAt_58 : decode cX16_keyAt 58 = .ok (.iconst 3, 1) := by decide +kernel
theorem dX16_keyAt_59 : decode cX16_keyAt 59 = .ok (.iadd, 1) := by decide +kernel
theorem dX16_keyAt_60 : decode cX16_keyAt 60 = .ok (.iaload, 1) := by decide +kernel
theorem dX16_keyAt_61 : decode cX16_keyAt 61 = .ok (.ior, 1) := by decide +kernel
theorem dX16_keyAt_62 : decode cX16_keyAt 62 = .ok (.iastore, 1) := by decide +kernel
theorem dX16_keyAt_63 : decode cX16_keyAt 63 = .ok (.iinc 3 1, 3) := by decide +kernel
theorem dX16_keyAt_66 : decode cX16_keyAt 66 = .ok (.goto (-64), 3) := by decide +kernel
theorem dX16_keyAt_69 : decode cX16_keyAt 69 = .ok (.return_, 1) := by decide +kernel
def b_X16_keyAt_2 (x1 x2 x3 : Int) (V : VV) : Option ((Int × VV) ⊕ (VV)) :=
  if w32 x3 < w32 5 then
    (l2 271 460 (x2 + (4 * x3)) V).bind fun v1 =>
    (l2 271 460 ((x2 + (4 * x3)) + 1) V).bind fun v2 =>
    (l2 271 460 ((x2 + (4 * x3)) + 2) V).bind fun v3 =>
    (l2 271 460 ((x2 + (4 * x3)) + 3) V).bind fun v4 =>
    (sp x1 x3 (bor (bor (bor (bshl v1 24) (bshl v2 16)) (bshl v3 8)) v4) V).bind fun V1 =>
    cnt (x3 + 1, V1)
  else
    xit (some V)
def l_X16_keyAt_2 (x1 x2 x3 : Int) (V : VV) : Option (VV) := lpN (fun s : Int × VV => b_X16_keyAt_2 x1 x2 s.1 s.2) FU (x3, V)
def f_X16_keyAt (x1 x2 : Int) (V : VV) : Option (VV) :=
  l_X16_keyAt_2 x1 x2 0 V
theorem s_X16_keyAt_2 {g : GG} {d : Nat} (hD : 0 ≤ d) {x1 x2 x3 : Int} {M : MM} (hM : LM M) {V : VV} {o : AV × MM} {P : ((Int × VV) ⊕ (VV)) → Prop} (c0 : ∀ s : Int × VV, P (.inl s) → Sem g d YX16_keyAt 2 [(1, 156), (1, x1), (0, x2), (0, s.1), (9, 0)] [] (wr M s.2) o) (r0 : ∀ r : VV, P (.inr r) → o = ((9, 0), (wr M r))) {z : (Int × VV) ⊕ (VV)} (h : b_X16_keyAt_2 x1 x2 x3 V = some z) (hz : P z) : Sem g d YX16_keyAt 2 [(1, 156), (1, x1), (0, x2), (0, x3), (9, 0)] [] (wr M V) o := by
  delta b_X16_keyAt_2 at h
  refine S_iload_n (i := 3) dX16_keyAt_2 rfl rfl ?_
  refine S_iconst dX16_keyAt_3 rfl ?_
  refine P_icmp_ge (tgt := 69) dX16_keyAt_4 rfl h (fun h => ?_) (fun h => ?_)
  · obtain ⟨z0, h, hz⟩ := xit_some' (P := fun r => P r) h hz
    obtain rfl := r0 _ (some_P (P := fun r => P (.inr r)) h hz)
    exact S_return dX16_keyAt_69 rfl
  · refine S_iload_n (i := 2) dX16_keyAt_7 rfl rfl ?_
    refine S_iconst dX16_keyAt_8 rfl ?_
    refine S_iload_n (i := 3) dX16_keyAt_9 rfl rfl ?_
    refine S_imul dX16_keyAt_10 ?_
    refine S_iadd dX16_keyAt_11 ?_
    refine S_istore dX16_keyAt_12 (Nat.le_of_ble_eq_true rfl) rfl rfl ?_
    change Sem g d YX16_keyAt 14 [(1, 156), (1, x1), (0, x2), (0, x3), (0, x2 + (4 * x3))] [] (wr M V) o
    refine S_aload_n (i := 1) dX16_keyAt_14 rfl rfl ?_
    refine S_iload_n (i := 3) dX16_keyAt_15 rfl rfl ?_
    refine S_aload_n (i := 0) dX16_keyAt_16 rfl rfl ?_
    refine P2_gfr hM (a := 271) FLX16_361 rfl ⟨rfl, rfl⟩ dX16_keyAt_17 ?_
    refine S_iload dX16_keyAt_20 rfl ?_
    refine P2_lai hM (a := 271) (n := 460) rfl dX16_keyAt_22 h (fun v1 h => ?_)
    refine S_bipush (z := 24) dX16_keyAt_23 rfl ?_
    refine S_ishl dX16_keyAt_25 ?_
    refine S_aload_n (i := 0) dX16_keyAt_26 rfl rfl ?_
    refine P2_gfr hM (a := 271) FLX16_361 rfl ⟨rfl, rfl⟩ dX16_keyAt_27 ?_
    refine S_iload dX16_keyAt_30 rfl ?_
    refine S_iconst dX16_keyAt_32 rfl ?_
    refine S_iadd dX16_keyAt_33 ?_
    refine P2_lai hM (a := 271) (n := 460) rfl dX16_keyAt_34 h (fun v2 h => ?_)
    refine S_bipush (z := 16) dX16_keyAt_35 rfl ?_
    refine S_ishl dX16_keyAt_37 ?_
    refine S_ior dX16_keyAt_38 ?_
    refine S_aload_n (i := 0) dX16_keyAt_39 rfl rfl ?_
    refine P2_gfr hM (a := 271) FLX16_361 rfl ⟨rfl, rfl⟩ dX16_keyAt_40 ?_
    refine S_iload dX16_keyAt_43 rfl ?_
    refine S_iconst dX16_keyAt_45 rfl ?_
    refine S_iadd dX16_keyAt_46 ?_
    refine P2_lai hM (a := 271) (n := 460) rfl dX16_keyAt_47 h (fun v3 h => ?_)
    refine S_bipush (z := 8) dX16_keyAt_48 rfl ?_
    refine S_ishl dX16_keyAt_50 ?_
    refine S_ior dX16_keyAt_51 ?_
    refine S_aload_n (i := 0) dX16_keyAt_52 rfl rfl ?_
    refine P2_gfr hM (a := 271) FLX16_361 rfl ⟨rfl, rfl⟩ dX16_keyAt_53 ?_
    refine S_iload dX16_keyAt_56 rfl ?_
    refine S_iconst dX16_keyAt_58 rfl ?_
    refine S_iadd dX16_keyAt_59 ?_
    refine P2_lai hM (a := 271) (n := 460) rfl dX16_keyAt_60 h (fun v4 h => ?_)
    refine S_ior dX16_keyAt_61 ?_
    refine P2_sp hM dX16_keyAt_62 h (fun V1 h => ?_)
    refine S_iinc dX16_keyAt_63 rfl rfl rfl ?_
    change Sem g d YX16_keyAt 66 [(1, 156), (1, x1), (0, x2), (0, x3 + 1), (0, x2 + (4 * x3))] [] (wr M V1) o
    refine S_goto (tgt := 2) dX16_keyAt_66 rfl ?_
    refine S_weak (ls' := [(1, 156), (1, x1), (0, x2), (0, x3 + 1), (9, 0)]) ⟨Or.inr rfl, ⟨Or.inr rfl, ⟨Or.inr rfl, ⟨Or.inr rfl, ⟨Or.inl rfl, trivial⟩⟩⟩⟩⟩ ?_
    exact c0 (x3 + 1, V1) (some_P (P := fun r => P r) h hz)
theorem sl_X16_keyAt_2 {g : GG} {d : Nat} (hD : 0 ≤ d) {x1 x2 x3 : Int} {M : MM} (hM : LM M) {V : VV} {o : AV × MM} {P : (VV) → Prop} (r0 : ∀ r : VV, P r → o = ((9, 0), (wr M r))) {z : VV} (h : l_X16_keyAt_2 x1 x2 x3 V = some z) (hz : P z) : Sem g d YX16_keyAt 2 [(1, 156), (1, x1), (0, x2), (0, x3), (9, 0)] [] (wr M V) o := by
  refine lp_sound (S := fun s : Int × VV => Sem g d YX16_keyAt 2 [(1, 156), (1, x1), (0, x2), (0, s.1), (9, 0)] [] (wr M s.2) o) (P := P) ?_ FU (x3, V) z h hz
  intro s x hx hP
  exact s_X16_keyAt_2 hD hM (P := Sum.elim (fun s : Int × VV => Sem g d YX16_keyAt 2 [(1, 156), (1, x1), (0, x2), (0, s.1), (9, 0)] [] (wr M s.2) o) P) (fun s h => h) (fun s h => r0 s h) hx hP
theorem s_X16_keyAt_0 {g : GG} {d : Nat} (hD : 0 ≤ d) {x1 x2 : Int} {M : MM} (hM : LM M) {V : VV} {o : AV × MM} {P : (VV) → Prop} (r0 : ∀ r : VV, P r → o = ((9, 0), (wr M r))) {z : VV} (h : f_X16_keyAt x1 x2 V = some z) (hz : P z) : Sem g d YX16_keyAt 0 [(1, 156), (1, x1), (0, x2), (9, 0), (9, 0)] [] (wr M V) o := by
  delta f_X16_keyAt at h
  refine S_iconst dX16_keyAt_0 rfl ?_
  refine S_istore_n (i := 3) dX16_keyAt_1 rfl (Nat.le_of_ble_eq_true rfl) rfl rfl ?_
  change Sem g d YX16_keyAt 2 [(1, 156), (1, x1), (0, x2), (0, 0), (9, 0)] [] (wr M V) o
  exact sl_X16_keyAt_2 hD hM r0 h hz
theorem F_X16_keyAt {g : GG} {d : Nat} (hD : 0 ≤ d) {x1 x2 : Int} {M : MM} (hM : LM M) {V : VV} {r : VV} (h : f_X16_keyAt x1 x2 V = some r) : Sem g d YX16_keyAt 0 (ini YX16_keyAt [(1, 156), (1, x1), (0, x2)]) [] (wr M V) ((9, 0), (wr M r)) := by
  change Sem g d YX16_keyAt 0 [(1, 156), (1, x1), (0, x2), (9, 0), (9, 0)] [] (wr M V) ((9, 0), (wr M r))
  exact s_X16_keyAt_0 hD hM (P := fun x => x = r) (fun q e => by rw [e]) h rfl
/-! PeerSearchModel.numberIn()I -/
theorem dX16_numberIn_0 : decode cX16_numberIn 0 = .ok (.aload_n 0, 1) := by decide +kernel
theorem dX16_numberIn_1 : decode cX16_numberIn 1 = .ok (.getfield 361, 3) := by decide +kernel
theorem dX16_numberIn_4 : decode cX16_numberIn 4 = .ok (.iconst 1, 1) := by decide +kernel
theorem dX16_numberIn_5 : decode cX16_numberIn 5 = .ok (.iaload, 1) := by decide +kernel
theorem dX16_numberIn_6 : decode cX16_numberIn 6 = .ok (.bipush 24, 2) := by decide +kernel
theorem dX16_numberIn_8 : decode cX16_numberIn 8 = .ok (.ishl, 1) := by decide +kernel
theorem dX16_numberIn_9 : decode cX16_numberIn 9 = .ok (.aload_n 0, 1) := by decide +kernel
theorem dX16_numberIn_10 : decode cX16_numberIn 10 = .ok (.getfield 361, 3) := by decide +kernel
theorem dX16_numberIn_13 : decode cX16_numberIn 13 = .ok (.iconst 2, 1) := by decide +kernel
theorem dX16_numberIn_14 : decode cX16_numberIn 14 = .ok (.iaload, 1) := by decide +kernel
theorem dX16_numberIn_15 : decode cX16_numberIn 15 = .ok (.bipush 16, 2) := by decide +kernel
theorem dX16_numberIn_17 : decode cX16_numberIn 17 = .ok (.ishl, 1) := by decide +kernel
theorem dX16_numberIn_18 : decode cX16_numberIn 18 = .ok (.ior, 1) := by decide +kernel
theorem dX16_numberIn_19 : decode cX16_numberIn 19 = .ok (.aload_n 0, 1) := by decide +kernel
theorem dX16_numberIn_20 : decode cX16_numberIn 20 = .ok (.getfield 361, 3) := by decide +kernel
theorem dX16_numberIn_23 : decode cX16_numberIn 23 = .ok (.iconst 3, 1) := by decide +kernel
theorem dX16_numberIn_24 : decode cX16_numberIn 24 = .ok (.iaload, 1) := by decide +kernel
theorem dX16_numberIn_25 : decode cX16_numberIn 25 = .ok (.bipush 8, 2) := by decide +kernel
theorem dX16_numberIn_27 : decode cX16_numberIn 27 = .ok (.ishl, 1) := by decide +kernel
theorem dX16_numberIn_28 : decode cX16_numberIn 28 = .ok (.ior, 1) := by decide +kernel
theorem dX16_numberIn_29 : decode cX16_numberIn 29 = .ok (.aload_n 0, 1) := by decide +kernel
theorem dX16_numberIn_30 : decode cX16_numberIn 30 = .ok (.getfield 361, 3) := by decide +kernel
theorem dX16_numberIn_33 : decode cX16_numberIn 33 = .ok (.iconst 4, 1) := by decide +kernel
theorem dX16_numberIn_34 : decode cX16_numberIn 34 = .ok (.iaload, 1) := by decide +kernel
theorem dX16_numberIn_35 : decode cX16_numberIn 35 = .ok (.ior, 1) := by decide +kernel
theorem dX16_numberIn_36 : decode cX16_numberIn 36 = .ok (.ireturn, 1) := by decide +kernel
def f_X16_numberIn (V : VV) : Option (Int) :=
  (l2 271 460 1 V).bind fun v1 =>
  (l2 271 460 2 V).bind fun v2 =>
  (l2 271 460 3 V).bind fun v3 =>
  (l2 271 460 4 V).bind fun v4 =>
  some (bor (bor (bor (bshl v1 24) (bshl v2 16)) (bshl v3 8)) v4)
theorem s_X16_numberIn_0 {g : GG} {d : Nat} (hD : 0 ≤ d) {M : MM} (hM : LM M) {V : VV} {o : AV × MM} {P : (Int) → Prop} (r0 : ∀ r : Int, P r → o = ((0, r), (wr M V))) {z : Int} (h : f_X16_numberIn V = some z) (hz : P z) : Sem g d YX16_numberIn 0 [(1, 156)] [] (wr M V) o := by
  delta f_X16_numberIn at h
  refine S_aload_n (i := 0) dX16_numberIn_0 rfl rfl ?_
  refine P2_gfr hM (a := 271) FLX16_361 rfl ⟨rfl, rfl⟩ dX16_numberIn_1 ?_
  refine S_iconst dX16_numberIn_4 rfl ?_
  refine P2_lai hM (a := 271) (n := 460) rfl dX16_numberIn_5 h (fun v1 h => ?_)
  refine S_bipush (z := 24) dX16_numberIn_6 rfl ?_
  refine S_ishl dX16_numberIn_8 ?_
  refine S_aload_n (i := 0) dX16_numberIn_9 rfl rfl ?_
  refine P2_gfr hM (a := 271) FLX16_361 rfl ⟨rfl, rfl⟩ dX16_numberIn_10 ?_
  refine S_iconst dX16_numberIn_13 rfl ?_
  refine P2_lai hM (a := 271) (n := 460) rfl dX16_numberIn_14 h (fun v2 h => ?_)
  refine S_bipush (z := 16) dX16_numberIn_15 rfl ?_
  refine S_ishl dX16_numberIn_17 ?_
  refine S_ior dX16_numberIn_18 ?_
  refine S_aload_n (i := 0) dX16_numberIn_19 rfl rfl ?_
  refine P2_gfr hM (a := 271) FLX16_361 rfl ⟨rfl, rfl⟩ dX16_numberIn_20 ?_
  refine S_iconst dX16_numberIn_23 rfl ?_
  refine P2_lai hM (a := 271) (n := 460) rfl dX16_numberIn_24 h (fun v3 h => ?_)
  refine S_bipush (z := 8) dX16_numberIn_25 rfl ?_
  refine S_ishl dX16_numberIn_27 ?_
  refine S_ior dX16_numberIn_28 ?_
  refine S_aload_n (i := 0) dX16_numberIn_29 rfl rfl ?_
  refine P2_gfr hM (a := 271) FLX16_361 rfl ⟨rfl, rfl⟩ dX16_numberIn_30 ?_
  refine S_iconst dX16_numberIn_33 rfl ?_
  refine P2_lai hM (a := 271) (n := 460) rfl dX16_numberIn_34 h (fun v4 h => ?_)
  refine S_ior dX16_numberIn_35 ?_
  obtain rfl := r0 _ (some_P (P := fun r => P r) h hz)
  exact P_ret dX16_numberIn_36 rfl (Or.inl rfl)
theorem F_X16_numberIn {g : GG} {d : Nat} (hD : 0 ≤ d) {M : MM} (hM : LM M) {V : VV} {r : Int} (h : f_X16_numberIn V = some r) : Sem g d YX16_numberIn 0 (ini YX16_numberIn [(1, 156)]) [] (wr M V) ((0, r), (wr M V)) := by
  change Sem g d YX16_numberIn 0 [(1, 156)] [] (wr M V) ((0, r), (wr M V))
  exact s_X16_numberIn_0 hD hM (P := fun x => x = r) (fun q e => by rw [e]) h rfl
/-! PeerSearchModel.pairAt(I)I -/
theorem dX16_pairAt_0 : decode cX16_pairAt 0 = .ok (.aload_n 0, 1) := by decide +kernel
theorem dX16_pairAt_1 : decode cX16_pairAt 1 = .ok (.getfield 361, 3) := by decide +kernel
theorem dX16_pairAt_4 : decode cX16_pairAt 4 = .ok (.iload_n 1, 1) := by decide +kernel
theorem dX16_pairAt_5 : decode cX16_pairAt 5 = .ok (.iaload, 1) := by decide +kernel
theorem dX16_pairAt_6 : decode cX16_pairAt 6 = .ok (.bipush 8, 2) := by decide +kernel
theorem dX16_pairAt_8 : decode cX16_pairAt 8 = .ok (.ishl, 1) := by decide +kernel
theorem dX16_pairAt_9 : decode cX16_pairAt 9 = .ok (.aload_n 0, 1) := by decide +kernel
theorem dX16_pairAt_10 : decode cX16_pairAt 10 = .ok (.getfield 361, 3) := by decide +kernel
theorem dX16_pairAt_13 : decode cX16_pairAt 13 = .ok (.iload_n 1, 1) := by decide +kernel
theorem dX16_pairAt_14 : decode cX16_pairAt 14 = .ok (.iconst 1, 1) := by decide +kernel
theorem dX16_pairAt_15 : decode cX16_pairAt 15 = .ok (.iadd, 1) := by decide +kernel
theorem dX16_pairAt_16 : decode cX16_pairAt 16 = .ok (.iaload, 1) := by decide +kernel
theorem dX16_pairAt_17 : decode cX16_pairAt 17 = .ok (.ior, 1) := by decide +kernel
theorem dX16_pairAt_18 : decode cX16_pairAt 18 = .ok (.ireturn, 1) := by decide +kernel
def f_X16_pairAt (x1 : Int) (V : VV) : Option (Int) :=
  (l2 271 460 x1 V).bind fun v1 =>
  (l2 271 460 (x1 + 1) V).bind fun v2 =>
  some (bor (bshl v1 8) v2)
theorem s_X16_pairAt_0 {g : GG} {d : Nat} (hD : 0 ≤ d) {x1 : Int} {M : MM} (hM : LM M) {V : VV} {o : AV × MM} {P : (Int) → Prop} (r0 : ∀ r : Int, P r → o = ((0, r), (wr M V))) {z : Int} (h : f_X16_pairAt x1 V = some z) (hz : P z) : Sem g d YX16_pairAt 0 [(1, 156), (0, x1)] [] (wr M V) o := by
  delta f_X16_pairAt at h
  refine S_aload_n (i := 0) dX16_pairAt_0 rfl rfl ?_
  refine P2_gfr hM (a := 271) FLX16_361 rfl ⟨rfl, rfl⟩ dX16_pairAt_1 ?_
  refine S_iload_n (i := 1) dX16_pairAt_4 rfl rfl ?_
  refine P2_lai hM (a := 271) (n := 460) rfl dX16_pairAt_5 h (fun v1 h => ?_)
  refine S_bipush (z := 8) dX16_pairAt_6 rfl ?_
  refine S_ishl dX16_pairAt_8 ?_
  refine S_aload_n (i := 0) dX16_pairAt_9 rfl rfl ?_
  refine P2_gfr hM (a := 271) FLX16_361 rfl ⟨rfl, rfl⟩ dX16_pairAt_10 ?_
  refine S_iload_n (i := 1) dX16_pairAt_13 rfl rfl ?_
  refine S_iconst dX16_pairAt_14 rfl ?_
  refine S_iadd dX16_pairAt_15 ?_
  refine P2_lai hM (a := 271) (n := 460) rfl dX16_pairAt_16 h (fun v2 h => ?_)
  refine S_ior dX16_pairAt_17 ?_
  obtain rfl := r0 _ (some_P (P := fun r => P r) h hz)
  exact P_ret dX16_pairAt_18 rfl (Or.inl rfl)
theorem F_X16_pairAt {g : GG} {d : Nat} (hD : 0 ≤ d) {x1 : Int} {M : MM} (hM : LM M) {V : VV} {r : Int} (h : f_X16_pairAt x1 V = some r) : Sem g d YX16_pairAt 0 (ini YX16_pairAt [(1, 156), (0, x1)]) [] (wr M V) ((0, r), (wr M V)) := by
  change Sem g d YX16_pairAt 0 [(1, 156), (0, x1)] [] (wr M V) ((0, r), (wr M V))
  exact s_X16_pairAt_0 hD hM (P := fun x => x = r) (fun q e => by rw [e]) h rfl
/-! PeerSearchModel.pairOut(I)V -/
theorem dX16_pairOut_0 : decode cX16_pairOut 0 = .ok (.aload_n 0, 1) := by decide +kernel
theorem dX16_pairOut_1 : decode cX16_pairOut 1 = .ok (.iload_n 1, 1) := by decide +kernel
theorem dX16_pairOut_2 : decode cX16_pairOut 2 = .ok (.bipush 8, 2) := by decide +kernel
theorem dX16_pairOut_4 : decode cX16_pairOut 4 = .ok (.ishr, 1) := by decide +kernel
theorem dX16_pairOut_5 : decode cX16_pairOut 5 = .ok (.invokevirtual 490, 3) := by decide +kernel
theorem dX16_pairOut_8 : decode cX16_pairOut 8 = .ok (.aload_n 0, 1) := by decide +kernel
theorem dX16_pairOut_9 : decode cX16_pairOut 9 = .ok (.iload_n 1, 1) := by decide +kernel
theorem dX16_pairOut_10 : decode cX16_pairOut 10 = .ok (.invokevirtual 490, 3) := by decide +kernel
theorem dX16_pairOut_13 : decode cX16_pairOut 13 = .ok (.return_, 1) := by decide +kernel
def f_X16_pairOut (x1 : Int) (V : VV) : Option (VV) :=
  (f_X16_byteOut (bshr x1 8) V).bind fun V1 =>
  (f_X16_byteOut x1 V1).bind fun V2 =>
  some V2
theorem s_X16_pairOut_0 {g : GG} {d : Nat} (hD : 1 ≤ d) {x1 : Int} {M : MM} (hM : LM M) {V : VV} {o : AV × MM} {P : (VV) → Prop} (r0 : ∀ r : VV, P r → o = ((9, 0), (wr M r))) {z : VV} (h : f_X16_pairOut x1 V = some z) (hz : P z) : Sem g d YX16_pairOut 0 [(1, 156), (0, x1)] [] (wr M V) o := by
  delta f_X16_pairOut at h
  refine S_aload_n (i := 0) dX16_pairOut_0 rfl rfl ?_
  refine S_iload_n (i := 1) dX16_pairOut_1 rfl rfl ?_
  refine S_bipush (z := 8) dX16_pairOut_2 rfl ?_
  refine S_ishr dX16_pairOut_4 ?_
  refine P2_invVm hM [(0, bshr x1 8)] [] CVX16_byteOut MLX16_490 dX16_pairOut_5 rfl rfl rfl rfl (by omega) h (fun r h => F_X16_byteOut (by omega) hM h) (fun V1 h => ?_)
  refine S_aload_n (i := 0) dX16_pairOut_8 rfl rfl ?_
  refine S_iload_n (i := 1) dX16_pairOut_9 rfl rfl ?_
  refine P2_invVm hM [(0, x1)] [] CVX16_byteOut MLX16_490 dX16_pairOut_10 rfl rfl rfl rfl (by omega) h (fun r h => F_X16_byteOut (by omega) hM h) (fun V2 h => ?_)
  obtain rfl := r0 _ (some_P (P := fun r => P r) h hz)
  exact S_return dX16_pairOut_13 rfl
theorem F_X16_pairOut {g : GG} {d : Nat} (hD : 1 ≤ d) {x1 : Int} {M : MM} (hM : LM M) {V : VV} {r : VV} (h : f_X16_pairOut x1 V = some r) : Sem g d YX16_pairOut 0 (ini YX16_pairOut [(1, 156), (0, x1)]) [] (wr M V) ((9, 0), (wr M r)) := by
  change Sem g d YX16_pairOut 0 [(1, 156), (0, x1)] [] (wr M V) ((9, 0), (wr M r))
  exact s_X16_pairOut_0 hD hM (P := fun x => x = r) (fun q e => by rw [e]) h rfl
/-! PeerSearchModel.takeFilter(I)V -/
theorem dX16_takeFilter_0 : decode cX16_takeFilter 0 = .ok (.aload_n 0, 1) := by decide +kernel
theorem dX16_takeFilter_1 : decode cX16_takeFilter 1 = .ok (.aload_n 0, 1) := by decide +kernel
theorem dX16_takeFilter_2 : decode cX16_takeFilter 2 = .ok (.getfield 361, 3) := by decide +kernel
theorem dX16_takeFilter_5 : decode cX16_takeFilter 5 = .ok (.iload_n 1, 1) := by decide +kernel
theorem dX16_takeFilter_6 : decode cX16_takeFilter 6 = .ok (.iaload, 1) := by decide +kernel
theorem dX16_takeFilter_7 : decode cX16_takeFilter 7 = .ok (.putfield 583, 3) := by decide +kernel
theorem dX16_takeFilter_10 : decode cX16_takeFilter 10 = .ok (.aload_n 0, 1) := by decide +kernel
theorem dX16_takeFilter_11 : decode cX16_takeFilter 11 = .ok (.aload_n 0, 1) := by decide +kernel
theorem dX16_takeFilter_12 : decode cX16_takeFilter 12 = .ok (.iload_n 1, 1) := by decide +kernel
theorem dX16_takeFilter_13 : decode cX16_takeFilter 13 = .ok (.iconst 1, 1) := by decide +kernel
theorem dX16_takeFilter_14 : decode cX16_takeFilter 14 = .ok (.iadd, 1) := by decide +kernel
theorem dX16_takeFilter_15 : decode cX16_takeFilter 15 = .ok (.invokevirtual 752, 3) := by decide +kernel
theorem dX16_takeFilter_18 : decode cX16_takeFilter 18 = .ok (.putfield 586, 3) := by decide +kernel
theorem dX16_takeFilter_21 : decode cX16_takeFilter 21 = .ok (.iconst 0, 1) := by decide +kernel
theorem dX16_takeFilter_22 : decode cX16_takeFilter 22 = .ok (.istore_n 2, 1) := by decide +kernel
theorem dX16_takeFilter_23 : decode cX16_takeFilter 23 = .ok (.iload_n 2, 1) := by decide +kernel
theorem dX16_takeFilter_24 : decode cX16_takeFilter 24 = .ok (.aload_n 0, 1) := by decide +kernel
theorem dX16_takeFilter_25 : decode cX16_takeFilter 25 = .ok (.getfield 586, 3) := by decide +kernel
theorem dX16_takeFilter_28 : decode cX16_takeFilter 28 = .ok (.if_icmp .ge 25, 3) := by decide +kernel
theorem dX16_takeFilter_31 : decode cX16_takeFilter 31 = .ok (.aload_n 0, 1) := by decide +kernel
theorem dX16_takeFilter_32 : decode cX16_takeFilter 32 = .ok (.getfield 207, 3) := by decide +kernel
theorem dX16_takeFilter_35 : decode cX16_takeFilter 35 = .ok (.iload_n 2, 1) := by decide +kernel
theorem dX16_takeFilter_36 : decode cX16_takeFilter 36 = .ok (.aload_n 0, 1) := by decide +kernel
theorem dX16_takeFilter_37 : decode cX16_takeFilter 37 = .ok (.getfield 361, 3) := by decide +kernel
theorem dX16_takeFilter_40 : decode cX16_takeFilter 40 = .ok (.iload_n 1, 1) := by decide +kernel
theorem dX16_takeFilter_41 : decode cX16_takeFilter 41 = .ok (.iconst 3, 1) := by decide +kernel
theorem dX16_takeFilter_42 : decode cX16_takeFilter 42 = .ok (.iadd, 1) := by decide +kernel
theorem dX16_takeFilter_43 : decode cX16_takeFilter 43 = .ok (.iload_n 2, 1) := by decide +kernel
theorem dX16_takeFilter_44 : decode cX16_takeFilter 44 = .ok (.iadd, 1) := by decide +kernel
theorem dX16_takeFilter_45 : decode cX16_takeFilter 45 = .ok (.iaload, 1) := by decide +kernel
theorem dX16_takeFilter_46 : decode cX16_takeFilter 46 = .ok (.iastore, 1) := by decide +kernel
theorem dX16_takeFilter_47 : decode cX16_takeFilter 47 = .ok (.iinc 2 1, 3) := by decide +kernel
theorem dX16_takeFilter_50 : decode cX16_takeFilter 50 = .ok (.goto (-27), 3) := by decide +kernel
theorem dX16_takeFilter_53 : decode cX16_takeFilter 53 = .ok (.return_, 1) := by decide +kernel
def b_X16_takeFilter_23 (x1 x2 : Int) (V : VV) : Option ((Int × VV) ⊕ (VV)) :=
  if w32 x2 < w32 (w32 (V 156 78)) then
    (l2 271 460 ((x1 + 3) + x2) V).bind fun v1 =>
    (s2 220 290 x2 v1 V).bind fun V1 =>
    cnt (x2 + 1, V1)
  else
    xit (some V)
def l_X16_takeFilter_23 (x1 x2 : Int) (V : VV) : Option (VV) := lpN (fun s : Int × VV => b_X16_takeFilter_23 x1 s.1 s.2) FU (x2, V)
def f_X16_takeFilter (x1 : Int) (V : VV) : Option (VV) :=
  (l2 271 460 x1 V).bind fun v1 =>
  (p2 79 v1 V).bind fun V1 =>
  (f_X16_pairAt (x1 + 1) V1).bind fun v2 =>
  (p2 78 v2 V1).bind fun V2 =>
  l_X16_takeFilter_23 x1 0 V2
theorem s_X16_takeFilter_23 {g : GG} {d : Nat} (hD : 1 ≤ d) {x1 x2 : Int} {M : MM} (hM : LM M) {V : VV} {o : AV × MM} {P : ((Int × VV) ⊕ (VV)) → Prop} (c0 : ∀ s : Int × VV, P (.inl s) → Sem g d YX16_takeFilter 23 [(1, 156), (0, x1), (0, s.1)] [] (wr M s.2) o) (r0 : ∀ r : VV, P (.inr r) → o = ((9, 0), (wr M r))) {z : (Int × VV) ⊕ (VV)} (h : b_X16_takeFilter_23 x1 x2 V = some z) (hz : P z) : Sem g d YX16_takeFilter 23 [(1, 156), (0, x1), (0, x2)] [] (wr M V) o := by
  delta b_X16_takeFilter_23 at h
  refine S_iload_n (i := 2) dX16_takeFilter_23 rfl rfl ?_
  refine S_aload_n (i := 0) dX16_takeFilter_24 rfl rfl ?_
  refine P2_gfi hM FLX16_586 rfl dX16_takeFilter_25 ?_
  refine P_icmp_ge (tgt := 53) dX16_takeFilter_28 rfl h (fun h => ?_) (fun h => ?_)
  · obtain ⟨z0, h, hz⟩ := xit_some' (P := fun r => P r) h hz
    obtain rfl := r0 _ (some_P (P := fun r => P (.inr r)) h hz)
    exact S_return dX16_takeFilter_53 rfl
  · refine S_aload_n (i := 0) dX16_takeFilter_31 rfl rfl ?_
    refine P2_gfr hM (a := 220) FLX16_207 rfl ⟨rfl, rfl⟩ dX16_takeFilter_32 ?_
    refine S_iload_n (i := 2) dX16_takeFilter_35 rfl rfl ?_
    refine S_aload_n (i := 0) dX16_takeFilter_36 rfl rfl ?_
    refine P2_gfr hM (a := 271) FLX16_361 rfl ⟨rfl, rfl⟩ dX16_takeFilter_37 ?_
    refine S_iload_n (i := 1) dX16_takeFilter_40 rfl rfl ?_
    refine S_iconst dX16_takeFilter_41 rfl ?_
    refine S_iadd dX16_takeFilter_42 ?_
    refine S_iload_n (i := 2) dX16_takeFilter_43 rfl rfl ?_
    refine S_iadd dX16_takeFilter_44 ?_
    refine P2_lai hM (a := 271) (n := 460) rfl dX16_takeFilter_45 h (fun v1 h => ?_)
    refine P2_sai hM (a := 220) (n := 290) rfl dX16_takeFilter_46 h (fun V1 h => ?_)
    refine S_iinc dX16_takeFilter_47 rfl rfl rfl ?_
    change Sem g d YX16_takeFilter 50 [(1, 156), (0, x1), (0, x2 + 1)] [] (wr M V1) o
    refine S_goto (tgt := 23) dX16_takeFilter_50 rfl ?_
    exact c0 (x2 + 1, V1) (some_P (P := fun r => P r) h hz)
theorem sl_X16_takeFilter_23 {g : GG} {d : Nat} (hD : 1 ≤ d) {x1 x2 : Int} {M : MM} (hM : LM M) {V : VV} {o : AV × MM} {P : (VV) → Prop} (r0 : ∀ r : VV, P r → o = ((9, 0), (wr M r))) {z : VV} (h : l_X16_takeFilter_23 x1 x2 V = some z) (hz : P z) : Sem g d YX16_takeFilter 23 [(1, 156), (0, x1), (0, x2)] [] (wr M V) o := by
  refine lp_sound (S := fun s : Int × VV => Sem g d YX16_takeFilter 23 [(1, 156), (0, x1), (0, s.1)] [] (wr M s.2) o) (P := P) ?_ FU (x2, V) z h hz
  intro s x hx hP
  exact s_X16_takeFilter_23 hD hM (P := Sum.elim (fun s : Int × VV => Sem g d YX16_takeFilter 23 [(1, 156), (0, x1), (0, s.1)] [] (wr M s.2) o) P) (fun s h => h) (fun s h => r0 s h) hx hP
theorem s_X16_takeFilter_0 {g : GG} {d : Nat} (hD : 1 ≤ d) {x1 : Int} {M : MM} (hM : LM M) {V : VV} {o : AV × MM} {P : (VV) → Prop} (r0 : ∀ r : VV, P r → o = ((9, 0), (wr M r))) {z : VV} (h : f_X16_takeFilter x1 V = some z) (hz : P z) : Sem g d YX16_takeFilter 0 [(1, 156), (0, x1), (9, 0)] [] (wr M V) o := by
  delta f_X16_takeFilter at h
  refine S_aload_n (i := 0) dX16_takeFilter_0 rfl rfl ?_
  refine S_aload_n (i := 0) dX16_takeFilter_1 rfl rfl ?_
  refine P2_gfr hM (a := 271) FLX16_361 rfl ⟨rfl, rfl⟩ dX16_takeFilter_2 ?_
  refine S_iload_n (i := 1) dX16_takeFilter_5 rfl rfl ?_
  refine P2_lai hM (a := 271) (n := 460) rfl dX16_takeFilter_6 h (fun v1 h => ?_)
  refine P2_pfi hM FLX16_583 FPX16_583 rfl dX16_takeFilter_7 h (fun V1 h => ?_)
  refine S_aload_n (i := 0) dX16_takeFilter_10 rfl rfl ?_
  refine S_aload_n (i := 0) dX16_takeFilter_11 rfl rfl ?_
  refine S_iload_n (i := 1) dX16_takeFilter_12 rfl rfl ?_
  refine S_iconst dX16_takeFilter_13 rfl ?_
  refine S_iadd dX16_takeFilter_14 ?_
  refine P2_invVp hM 0 [(0, x1 + 1)] [(1, 156)] CVX16_pairAt MLX16_752 dX16_takeFilter_15 rfl rfl rfl rfl rfl (by omega) h (fun r h => F_X16_pairAt (by omega) hM h) (fun v2 h => ?_)
  refine P2_pfi hM FLX16_586 FPX16_586 rfl dX16_takeFilter_18 h (fun V2 h => ?_)
  refine S_iconst dX16_takeFilter_21 rfl ?_
  refine S_istore_n (i := 2) dX16_takeFilter_22 rfl (Nat.le_of_ble_eq_true rfl) rfl rfl ?_
  change Sem g d YX16_takeFilter 23 [(1, 156), (0, x1), (0, 0)] [] (wr M V2) o
  exact sl_X16_takeFilter_23 hD hM r0 h hz
theorem F_X16_takeFilter {g : GG} {d : Nat} (hD : 1 ≤ d) {x1 : Int} {M : MM} (hM : LM M) {V : VV} {r : VV} (h : f_X16_takeFilter x1 V = some r) : Sem g d YX16_takeFilter 0 (ini YX16_takeFilter [(1, 156), (0, x1)]) [] (wr M V) ((9, 0), (wr M r)) := by
  change Sem g d YX16_takeFilter 0 [(1, 156), (0, x1), (9, 0)] [] (wr M V) ((9, 0), (wr M r))
  exact s_X16_takeFilter_0 hD hM (P := fun x => x = r) (fun q e => by rw [e]) h rfl
/-! PeerSearchModel.tellNodes(I)V -/
theorem dX16_tellNodes_0 : decode cX16_tellNodes 0 = .ok (.aload_n 0, 1) := by decide +kernel
theorem dX16_tellNodes_1 : decode cX16_tellNodes 1 = .ok (.aload_n 0, 1) := by decide +kernel
theorem dX16_tellNodes_2 : decode cX16_tellNodes 2 = .ok (.getfield 131, 3) := by decide +kernel
theorem dX16_tellNodes_5 : decode cX16_tellNodes 5 = .ok (.bipush 25, 2) := by decide +kernel
theorem dX16_tellNodes_7 : decode cX16_tellNodes 7 = .ok (.invokevirtual 765, 3) := by decide +kernel
theorem dX16_tellNodes_10 : decode cX16_tellNodes 10 = .ok (.aload_n 0, 1) := by decide +kernel
theorem dX16_tellNodes_11 : decode cX16_tellNodes 11 = .ok (.iload_n 1, 1) := by decide +kernel
theorem dX16_tellNodes_12 : decode cX16_tellNodes 12 = .ok (.aload_n 0, 1) := by decide +kernel
theorem dX16_tellNodes_13 : decode cX16_tellNodes 13 = .ok (.getfield 364, 3) := by decide +kernel
theorem dX16_tellNodes_16 : decode cX16_tellNodes 16 = .ok (.iconst 0, 1) := by decide +kernel
theorem dX16_tellNodes_17 : decode cX16_tellNodes 17 = .ok (.invokevirtual 625, 3) := by decide +kernel
theorem dX16_tellNodes_20 : decode cX16_tellNodes 20 = .ok (.aload_n 0, 1) := by decide +kernel
theorem dX16_tellNodes_21 : decode cX16_tellNodes 21 = .ok (.aload_n 0, 1) := by decide +kernel
theorem dX16_tellNodes_22 : decode cX16_tellNodes 22 = .ok (.getfield 537, 3) := by decide +kernel
theorem dX16_tellNodes_25 : decode cX16_tellNodes 25 = .ok (.invokevirtual 490, 3) := by decide +kernel
theorem dX16_tellNodes_28 : decode cX16_tellNodes 28 = .ok (.iconst 0, 1) := by decide +kernel
theorem dX16_tellNodes_29 : decode cX16_tellNodes 29 = .ok (.istore_n 2, 1) := by decide +kernel
theorem dX16_tellNodes_30 : decode cX16_tellNodes 30 = .ok (.iload_n 2, 1) := by decide +kernel
theorem dX16_tellNodes_31 : decode cX16_tellNodes 31 = .ok (.aload_n 0, 1) := by decide +kernel
theorem dX16_tellNodes_32 : decode cX16_tellNodes 32 = .ok (.getfield 537, 3) := by decide +kernel
theorem dX16_tellNodes_35 : decode cX16_tellNodes 35 = .ok (.if_icmp .ge 40, 3) := by decide +kernel
theorem dX16_tellNodes_38 : decode cX16_tellNodes 38 = .ok (.aload_n 0, 1) := by decide +kernel
theorem dX16_tellNodes_39 : decode cX16_tellNodes 39 = .ok (.aload_n 0, 1) := by decide +kernel
theorem dX16_tellNodes_40 : decode cX16_tellNodes 40 = .ok (.getfield 114, 3) := by decide +kernel
theorem dX16_tellNodes_43 : decode cX16_tellNodes 43 = .ok (.iconst 5, 1) := by decide +kernel
theorem dX16_tellNodes_44 : decode cX16_tellNodes 44 = .ok (.aload_n 0, 1) := by decide +kernel
theorem dX16_tellNodes_45 : decode cX16_tellNodes 45 = .ok (.getfield 134, 3) := by decide +kernel
theorem dX16_tellNodes_48 : decode cX16_tellNodes 48 = .ok (.iload_n 2, 1) := by decide +kernel
theorem dX16_tellNodes_49 : decode cX16_tellNodes 49 = .ok (.iaload, 1) := by decide +kernel
theorem dX16_tellNodes_50 : decode cX16_tellNodes 50 = .ok (.imul, 1) := by decide +kernel
theorem dX16_tellNodes_51 : decode cX16_tellNodes 51 = .ok (.invokevirtual 493, 3) := by decide +kernel
theorem dX16_tellNodes_54 : decode cX16_tellNodes 54 = .ok (.aload_n 0, 1) := by decide +kernel
theorem dX16_tellNodes_55 : decode cX16_tellNodes 55 = .ok (.aload_n 0, 1) := by decide +kernel
theorem dX16_tellNodes_56 : decode cX16_tellNodes 56 = .ok (.getfield 118, 3) := by decide +kernel
theorem dX16_tellNodes_59 : decode cX16_tellNodes 59 = .ok (.aload_n 0, 1) := by decide +kernel
theorem dX16_tellNodes_60 : decode cX16_tellNodes 60 = .ok (.getfield 134, 3) := by decide +kernel
theorem dX16_tellNodes_63 : decode cX16_tellNodes 63 = .ok (.iload_n 2, 1) := by decide +kernel
theorem dX16_tellNodes_64 : decode cX16_tellNodes 64 = .ok (.iaload, 1) := by decide +kernel
theorem dX16_tellNodes_65 : decode cX16_tellNodes 65 = .ok (.iaload, 1) := by decide +kernel
theorem dX16_tellNodes_66 : decode cX16_tellNodes 66 = .ok (.invokevirtual 490, 3) := by decide +kernel
theorem dX16_tellNodes_69 : decode cX16_tellNodes 69 = .ok (.iinc 2 1, 3) := by decide +kernel
theorem dX16_tellNodes_72 : decode cX16_tellNodes 72 = .ok (.goto (-42), 3) := by decide +kernel
theorem dX16_tellNodes_75 : decode cX16_tellNodes 75 = .ok (.return_, 1) := by decide +kernel
def b_X16_tellNodes_30 (x2 : Int) (V : VV) : Option ((Int × VV) ⊕ (VV)) :=
  if w32 x2 < w32 (w32 (V 156 50)) then
    (l2 196 21 x2 V).bind fun v1 =>
    (f_X16_keyOut 190 (5 * v1) V).bind fun V1 =>
    (l2 196 21 x2 V1).bind fun v2 =>
    (l2 191 35200 v2 V1).bind fun v3 =>
    (f_X16_byteOut v3 V1).bind fun V2 =>
    cnt (x2 + 1, V2)
  else
    xit (some V)
def l_X16_tellNodes_30 (x2 : Int) (V : VV) : Option (VV) := lpN (fun s : Int × VV => b_X16_tellNodes_30 s.1 s.2) FU (x2, V)
def f_X16_tellNodes (x1 : Int) (V : VV) : Option (VV) :=
  (f_X16_keyAt 195 25 V).bind fun V1 =>
  (f_X16_nodesFor x1 272 0 V1).bind fun V2 =>
  (f_X16_byteOut (w32 (V2 156 50)) V2).bind fun V3 =>
  l_X16_tellNodes_30 0 V3
theorem s_X16_tellNodes_30 {g : GG} {d : Nat} (hD : 4 ≤ d) {x2 : Int} {M : MM} (hM : LM M) {V : VV} {o : AV × MM} {P : ((Int × VV) ⊕ (VV)) → Prop} (c0 : ∀ s : Int × VV, P (.inl s) → Sem g d YX16_tellNodes 30 [(1, 156), (9, 0), (0, s.1)] [] (wr M s.2) o) (r0 : ∀ r : VV, P (.inr r) → o = ((9, 0), (wr M r))) {z : (Int × VV) ⊕ (VV)} (h : b_X16_tellNodes_30 x2 V = some z) (hz : P z) : Sem g d YX16_tellNodes 30 [(1, 156), (9, 0), (0, x2)] [] (wr M V) o := by
  delta b_X16_tellNodes_30 at h
  refine S_iload_n (i := 2) dX16_tellNodes_30 rfl rfl ?_
  refine S_aload_n (i := 0) dX16_tellNodes_31 rfl rfl ?_
  refine P2_gfi hM FLX16_537 rfl dX16_tellNodes_32 ?_
  refine P_icmp_ge (tgt := 75) dX16_tellNodes_35 rfl h (fun h => ?_) (fun h => ?_)
  · obtain ⟨z0, h, hz⟩ := xit_some' (P := fun r => P r) h hz
    obtain rfl := r0 _ (some_P (P := fun r => P (.inr r)) h hz)
    exact S_return dX16_tellNodes_75 rfl
  · refine S_aload_n (i := 0) dX16_tellNodes_38 rfl rfl ?_
    refine S_aload_n (i := 0) dX16_tellNodes_39 rfl rfl ?_
    refine P2_gfr hM (a := 190) FLX16_114 rfl ⟨rfl, rfl⟩ dX16_tellNodes_40 ?_
    refine S_iconst dX16_tellNodes_43 rfl ?_
    refine S_aload_n (i := 0) dX16_tellNodes_44 rfl rfl ?_
    refine P2_gfr hM (a := 196) FLX16_134 rfl ⟨rfl, rfl⟩ dX16_tellNodes_45 ?_
    refine S_iload_n (i := 2) dX16_tellNodes_48 rfl rfl ?_
    refine P2_lai hM (a := 196) (n := 21) rfl dX16_tellNodes_49 h (fun v1 h => ?_)
    refine S_imul dX16_tellNodes_50 ?_
    refine P2_invVm hM [(1, 190), (0, 5 * v1)] [] CVX16_keyOut MLX16_493 dX16_tellNodes_51 rfl rfl rfl rfl (by omega) h (fun r h => F_X16_keyOut (by omega) hM h) (fun V1 h => ?_)
    refine S_aload_n (i := 0) dX16_tellNodes_54 rfl rfl ?_
    refine S_aload_n (i := 0) dX16_tellNodes_55 rfl rfl ?_
    refine P2_gfr hM (a := 191) FLX16_118 rfl ⟨rfl, rfl⟩ dX16_tellNodes_56 ?_
    refine S_aload_n (i := 0) dX16_tellNodes_59 rfl rfl ?_
    refine P2_gfr hM (a := 196) FLX16_134 rfl ⟨rfl, rfl⟩ dX16_tellNodes_60 ?_
    refine S_iload_n (i := 2) dX16_tellNodes_63 rfl rfl ?_
    refine P2_lai hM (a := 196) (n := 21) rfl dX16_tellNodes_64 h (fun v2 h => ?_)
    refine P2_lai hM (a := 191) (n := 35200) rfl dX16_tellNodes_65 h (fun v3 h => ?_)
    refine P2_invVm hM [(0, v3)] [] CVX16_byteOut MLX16_490 dX16_tellNodes_66 rfl rfl rfl rfl (by omega) h (fun r h => F_X16_byteOut (by omega) hM h) (fun V2 h => ?_)
    refine S_iinc dX16_tellNodes_69 rfl rfl rfl ?_
    change Sem g d YX16_tellNodes 72 [(1, 156), (9, 0), (0, x2 + 1)] [] (wr M V2) o
    refine S_goto (tgt := 30) dX16_tellNodes_72 rfl ?_
    exact c0 (x2 + 1, V2) (some_P (P := fun r => P r) h hz)
theorem sl_X16_tellNodes_30 {g : GG} {d : Nat} (hD : 4 ≤ d) {x2 : Int} {M : MM} (hM : LM M) {V : VV} {o : AV × MM} {P : (VV) → Prop} (r0 : ∀ r : VV, P r → o = ((9, 0), (wr M r))) {z : VV} (h : l_X16_tellNodes_30 x2 V = some z) (hz : P z) : Sem g d YX16_tellNodes 30 [(1, 156), (9, 0), (0, x2)] [] (wr M V) o := by
  refine lp_sound (S := fun s : Int × VV => Sem g d YX16_tellNodes 30 [(1, 156), (9, 0), (0, s.1)] [] (wr M s.2) o) (P := P) ?_ FU (x2, V) z h hz
  intro s x hx hP
  exact s_X16_tellNodes_30 hD hM (P := Sum.elim (fun s : Int × VV => Sem g d YX16_tellNodes 30 [(1, 156), (9, 0), (0, s.1)] [] (wr M s.2) o) P) (fun s h => h) (fun s h => r0 s h) hx hP
theorem s_X16_tellNodes_0 {g : GG} {d : Nat} (hD : 4 ≤ d) {x1 : Int} {M : MM} (hM : LM M) {V : VV} {o : AV × MM} {P : (VV) → Prop} (r0 : ∀ r : VV, P r → o = ((9, 0), (wr M r))) {z : VV} (h : f_X16_tellNodes x1 V = some z) (hz : P z) : Sem g d YX16_tellNodes 0 [(1, 156), (0, x1), (9, 0)] [] (wr M V) o := by
  delta f_X16_tellNodes at h
  refine S_aload_n (i := 0) dX16_tellNodes_0 rfl rfl ?_
  refine S_aload_n (i := 0) dX16_tellNodes_1 rfl rfl ?_
  refine P2_gfr hM (a := 195) FLX16_131 rfl ⟨rfl, rfl⟩ dX16_tellNodes_2 ?_
  refine S_bipush (z := 25) dX16_tellNodes_5 rfl ?_
  refine P2_invVm hM [(1, 195), (0, 25)] [] CVX16_keyAt MLX16_765 dX16_tellNodes_7 rfl rfl rfl rfl (by omega) h (fun r h => F_X16_keyAt (by omega) hM h) (fun V1 h => ?_)
  refine S_aload_n (i := 0) dX16_tellNodes_10 rfl rfl ?_
  refine S_iload_n (i := 1) dX16_tellNodes_11 rfl rfl ?_
  refine S_aload_n (i := 0) dX16_tellNodes_12 rfl rfl ?_
  refine P2_gfr hM (a := 272) FLX16_364 rfl ⟨rfl, rfl⟩ dX16_tellNodes_13 ?_
  refine S_iconst dX16_tellNodes_16 rfl ?_
  refine P2_invVm hM [(0, x1), (1, 272), (0, 0)] [] CVX16_nodesFor MLX16_625 dX16_tellNodes_17 rfl rfl rfl rfl (by omega) h (fun r h => F_X16_nodesFor (by omega) hM h) (fun V2 h => ?_)
  refine S_aload_n (i := 0) dX16_tellNodes_20 rfl rfl ?_
  refine S_aload_n (i := 0) dX16_tellNodes_21 rfl rfl ?_
  refine P2_gfi hM FLX16_537 rfl dX16_tellNodes_22 ?_
  refine P2_invVm hM [(0, w32 (V2 156 50))] [] CVX16_byteOut MLX16_490 dX16_tellNodes_25 rfl rfl rfl rfl (by omega) h (fun r h => F_X16_byteOut (by omega) hM h) (fun V3 h => ?_)
  refine S_iconst dX16_tellNodes_28 rfl ?_
  refine S_istore_n (i := 2) dX16_tellNodes_29 rfl (Nat.le_of_ble_eq_true rfl) rfl rfl ?_
  change Sem g d YX16_tellNodes 30 [(1, 156), (0, x1), (0, 0)] [] (wr M V3) o
  refine S_weak (ls' := [(1, 156), (9, 0), (0, 0)]) ⟨Or.inr rfl, ⟨Or.inl rfl, ⟨Or.inr rfl, trivial⟩⟩⟩ ?_
  exact sl_X16_tellNodes_30 hD hM r0 h hz
theorem F_X16_tellNodes {g : GG} {d : Nat} (hD : 4 ≤ d) {x1 : Int} {M : MM} (hM : LM M) {V : VV} {r : VV} (h : f_X16_tellNodes x1 V = some r) : Sem g d YX16_tellNodes 0 (ini YX16_tellNodes [(1, 156), (0, x1)]) [] (wr M V) ((9, 0), (wr M r)) := by
  change Sem g d YX16_tellNodes 0 [(1, 156), (0, x1), (9, 0)] [] (wr M V) ((9, 0), (wr M r))
  exact s_X16_tellNodes_0 hD hM (P := fun x => x = r) (fun q e => by rw [e]) h rfl
/-! PeerSearchModel.tellPostings()V -/
theorem dX16_tellPostings_0 : decode cX16_tellPostings 0 = .ok (.aload_n 0, 1) := by decide +kernel
theorem dX16_tellPostings_1 : decode cX16_tellPostings 1 = .ok (.aload_n 0, 1) := by decide +kernel
theorem dX16_tellPostings_2 : decode cX16_tellPostings 2 = .ok (.getfield 595, 3) := by decide +kernel
theorem dX16_tellPostings_5 : decode cX16_tellPostings 5 = .ok (.invokevirtual 490, 3) := by decide +kernel
theorem dX16_tellPostings_8 : decode cX16_tellPostings 8 = .ok (.iconst 0, 1) := by decide +kernel
theorem dX16_tellPostings_9 : decode cX16_tellPostings 9 = .ok (.istore_n 1, 1) := by decide +kernel
theorem dX16_tellPostings_10 : decode cX16_tellPostings 10 = .ok (.iload_n 1, 1) := by decide +kernel
theorem dX16_tellPostings_11 : decode cX16_tellPostings 11 = .ok (.aload_n 0, 1) := by decide +kernel
theorem dX16_tellPostings_12 : decode cX16_tellPostings 12 = .ok (.getfield 595, 3) := by decide +kernel
theorem dX16_tellPostings_15 : decode cX16_tellPostings 15 = .ok (.if_icmp .ge 39, 3) := by decide +kernel
theorem dX16_tellPostings_18 : decode cX16_tellPostings 18 = .ok (.aload_n 0, 1) := by decide +kernel
theorem dX16_tellPostings_19 : decode cX16_tellPostings 19 = .ok (.aload_n 0, 1) := by decide +kernel
theorem dX16_tellPostings_20 : decode cX16_tellPostings 20 = .ok (.getfield 210, 3) := by decide +kernel
theorem dX16_tellPostings_23 : decode cX16_tellPostings 23 = .ok (.iload_n 1, 1) := by decide +kernel
theorem dX16_tellPostings_24 : decode cX16_tellPostings 24 = .ok (.iaload, 1) := by decide +kernel
theorem dX16_tellPostings_25 : decode cX16_tellPostings 25 = .ok (.invokevirtual 490, 3) := by decide +kernel
theorem dX16_tellPostings_28 : decode cX16_tellPostings 28 = .ok (.aload_n 0, 1) := by decide +kernel
theorem dX16_tellPostings_29 : decode cX16_tellPostings 29 = .ok (.aload_n 0, 1) := by decide +kernel
theorem dX16_tellPostings_30 : decode cX16_tellPostings 30 = .ok (.getfield 213, 3) := by decide +kernel
theorem dX16_tellPostings_33 : decode cX16_tellPostings 33 = .ok (.iload_n 1, 1) := by decide +kernel
theorem dX16_tellPostings_34 : decode cX16_tellPostings 34 = .ok (.iaload, 1) := by decide +kernel
theorem dX16_tellPostings_35 : decode cX16_tellPostings 35 = .ok (.invokevirtual 490, 3) := by decide +kernel
theorem dX16_tellPostings_38 : decode cX16_tellPostings 38 = .ok (.aload_n 0, 1) := by decide +kernel
theorem dX16_tellPostings_39 : decode cX16_tellPostings 39 = .ok (.aload_n 0, 1) := by decide +kernel
theorem dX16_tellPostings_40 : decode cX16_tellPostings 40 = .ok (.getfield 216, 3) := by decide +kernel
theorem dX16_tellPostings_43 : decode cX16_tellPostings 43 = .ok (.iload_n 1, 1) := by decide +kernel
theorem dX16_tellPostings_44 : decode cX16_tellPostings 44 = .ok (.iaload, 1) := by decide +kernel
theorem dX16_tellPostings_45 : decode cX16_tellPostings 45 = .ok (.invokevirtual 490, 3) := by decide +kernel
theorem dX16_tellPostings_48 : decode cX16_tellPostings 48 = .ok (.iinc 1 1, 3) := by decide +kernel
theorem dX16_tellPostings_51 : decode cX16_tellPostings 51 = .ok (.goto (-41), 3) := by decide +kernel
theorem dX16_tellPostings_54 : decode cX16_tellPostings 54 = .ok (.return_, 1) := by decide +kernel
def b_X16_tellPostings_10 (x1 : Int) (V : VV) : Option ((Int × VV) ⊕ (VV)) :=
  if w32 x1 < w32 (w32 (V 156 83)) then
    (l2 221 30 x1 V).bind fun v1 =>
    (f_X16_byteOut v1 V).bind fun V1 =>
    (l2 222 30 x1 V1).bind fun v2 =>
    (f_X16_byteOut v2 V1).bind fun V2 =>
    (l2 223 30 x1 V2).bind fun v3 =>
    (f_X16_byteOut v3 V2).bind fun V3 =>
    cnt (x1 + 1, V3)
  else
    xit (some V)
def l_X16_tellPostings_10 (x1 : Int) (V : VV) : Option (VV) := lpN (fun s : Int × VV => b_X16_tellPostings_10 s.1 s.2) FU (x1, V)
def f_X16_tellPostings (V : VV) : Option (VV) :=
  (f_X16_byteOut (w32 (V 156 83)) V).bind fun V1 =>
  l_X16_tellPostings_10 0 V1
theorem s_X16_tellPostings_10 {g : GG} {d : Nat} (hD : 1 ≤ d) {x1 : Int} {M : MM} (hM : LM M) {V : VV} {o : AV × MM} {P : ((Int × VV) ⊕ (VV)) → Prop} (c0 : ∀ s : Int × VV, P (.inl s) → Sem g d YX16_tellPostings 10 [(1, 156), (0, s.1)] [] (wr M s.2) o) (r0 : ∀ r : VV, P (.inr r) → o = ((9, 0), (wr M r))) {z : (Int × VV) ⊕ (VV)} (h : b_X16_tellPostings_10 x1 V = some z) (hz : P z) : Sem g d YX16_tellPostings 10 [(1, 156), (0, x1)] [] (wr M V) o := by
  delta b_X16_tellPostings_10 at h
  refine S_iload_n (i := 1) dX16_tellPostings_10 rfl rfl ?_
  refine S_aload_n (i := 0) dX16_tellPostings_11 rfl rfl ?_
  refine P2_gfi hM FLX16_595 rfl dX16_tellPostings_12 ?_
  refine P_icmp_ge (tgt := 54) dX16_tellPostings_15 rfl h (fun h => ?_) (fun h => ?_)
  · obtain ⟨z0, h, hz⟩ := xit_some' (P := fun r => P r) h hz
    obtain rfl := r0 _ (some_P (P := fun r => P (.inr r)) h hz)
    exact S_return dX16_tellPostings_54 rfl
  · refine S_aload_n (i := 0) dX16_tellPostings_18 rfl rfl ?_
    refine S_aload_n (i := 0) dX16_tellPostings_19 rfl rfl ?_
    refine P2_gfr hM (a := 221) FLX16_210 rfl ⟨rfl, rfl⟩ dX16_tellPostings_20 ?_
    refine S_iload_n (i := 1) dX16_tellPostings_23 rfl rfl ?_
    refine P2_lai hM (a := 221) (n := 30) rfl dX16_tellPostings_24 h (fun v1 h => ?_)
    refine P2_invVm hM [(0, v1)] [] CVX16_byteOut MLX16_490 dX16_tellPostings_25 rfl rfl rfl rfl (by omega) h (fun r h => F_X16_byteOut (by omega) hM h) (fun V1 h => ?_)
    refine S_aload_n (i := 0) dX16_tellPostings_28 rfl rfl ?_
    refine S_aload_n (i := 0) dX16_tellPostings_29 rfl rfl ?_
    refine P2_gfr hM (a := 222) FLX16_213 rfl ⟨rfl, rfl⟩ dX16_tellPostings_30 ?_
    refine S_iload_n (i := 1) dX16_tellPostings_33 rfl rfl ?_
    refine P2_lai hM (a := 222) (n := 30) rfl dX16_tellPostings_34 h (fun v2 h => ?_)
    refine P2_invVm hM [(0, v2)] [] CVX16_byteOut MLX16_490 dX16_tellPostings_35 rfl rfl rfl rfl (by omega) h (fun r h => F_X16_byteOut (by omega) hM h) (fun V2 h => ?_)
    refine S_aload_n (i := 0) dX16_tellPostings_38 rfl rfl ?_
    refine S_aload_n (i := 0) dX16_tellPostings_39 rfl rfl ?_
    refine P2_gfr hM (a := 223) FLX16_216 rfl ⟨rfl, rfl⟩ dX16_tellPostings_40 ?_
    refine S_iload_n (i := 1) dX16_tellPostings_43 rfl rfl ?_
    refine P2_lai hM (a := 223) (n := 30) rfl dX16_tellPostings_44 h (fun v3 h => ?_)
    refine P2_invVm hM [(0, v3)] [] CVX16_byteOut MLX16_490 dX16_tellPostings_45 rfl rfl rfl rfl (by omega) h (fun r h => F_X16_byteOut (by omega) hM h) (fun V3 h => ?_)
    refine S_iinc dX16_tellPostings_48 rfl rfl rfl ?_
    change Sem g d YX16_tellPostings 51 [(1, 156), (0, x1 + 1)] [] (wr M V3) o
    refine S_goto (tgt := 10) dX16_tellPostings_51 rfl ?_
    exact c0 (x1 + 1, V3) (some_P (P := fun r => P r) h hz)
theorem sl_X16_tellPostings_10 {g : GG} {d : Nat} (hD : 1 ≤ d) {x1 : Int} {M : MM} (hM : LM M) {V : VV} {o : AV × MM} {P : (VV) → Prop} (r0 : ∀ r : VV, P r → o = ((9, 0), (wr M r))) {z : VV} (h : l_X16_tellPostings_10 x1 V = some z) (hz : P z) : Sem g d YX16_tellPostings 10 [(1, 156), (0, x1)] [] (wr M V) o := by
  refine lp_sound (S := fun s : Int × VV => Sem g d YX16_tellPostings 10 [(1, 156), (0, s.1)] [] (wr M s.2) o) (P := P) ?_ FU (x1, V) z h hz
  intro s x hx hP
  exact s_X16_tellPostings_10 hD hM (P := Sum.elim (fun s : Int × VV => Sem g d YX16_tellPostings 10 [(1, 156), (0, s.1)] [] (wr M s.2) o) P) (fun s h => h) (fun s h => r0 s h) hx hP
theorem s_X16_tellPostings_0 {g : GG} {d : Nat} (hD : 1 ≤ d) {M : MM} (hM : LM M) {V : VV} {o : AV × MM} {P : (VV) → Prop} (r0 : ∀ r : VV, P r → o = ((9, 0), (wr M r))) {z : VV} (h : f_X16_tellPostings V = some z) (hz : P z) : Sem g d YX16_tellPostings 0 [(1, 156), (9, 0)] [] (wr M V) o := by
  delta f_X16_tellPostings at h
  refine S_aload_n (i := 0) dX16_tellPostings_0 rfl rfl ?_
  refine S_aload_n (i := 0) dX16_tellPostings_1 rfl rfl ?_
  refine P2_gfi hM FLX16_595 rfl dX16_tellPostings_2 ?_
  refine P2_invVm hM [(0, w32 (V 156 83))] [] CVX16_byteOut MLX16_490 dX16_tellPostings_5 rfl rfl rfl rfl (by omega) h (fun r h => F_X16_byteOut (by omega) hM h) (fun V1 h => ?_)
  refine S_iconst dX16_tellPostings_8 rfl ?_
  refine S_istore_n (i := 1) dX16_tellPostings_9 rfl (Nat.le_of_ble_eq_true rfl) rfl rfl ?_
  change Sem g d YX16_tellPostings 10 [(1, 156), (0, 0)] [] (wr M V1) o
  exact sl_X16_tellPostings_10 hD hM r0 h hz
theorem F_X16_tellPostings {g : GG} {d : Nat} (hD : 1 ≤ d) {M : MM} (hM : LM M) {V : VV} {r : VV} (h : f_X16_tellPostings V = some r) : Sem g d YX16_tellPostings 0 (ini YX16_tellPostings [(1, 156)]) [] (wr M V) ((9, 0), (wr M r)) := by
  change Sem g d YX16_tellPostings 0 [(1, 156), (9, 0)] [] (wr M V) ((9, 0), (wr M r))
  exact s_X16_tellPostings_0 hD hM (P := fun x => x = r) (fun q e => by rw [e]) h rfl
/-! PeerSearchModel.answer(II)V -/
theorem dX16_answer_0 : decode cX16_answer 0 = .ok (.aload_n 0, 1) := by decide +kernel
theorem dX16_answer_1 : decode cX16_answer 1 = .ok (.getfield 361, 3) := by decide +kernel
theorem dX16_answer_4 : decode cX16_answer 4 = .ok (.iconst 0, 1) := by decide +kernel
theorem dX16_answer_5 : decode cX16_answer 5 = .ok (.iaload, 1) := by decide +kernel
theorem dX16_answer_6 : decode cX16_answer 6 = .ok (.istore_n 3, 1) := by decide +kernel
theorem dX16_answer_7 : decode cX16_answer 7 = .ok (.iload_n 3, 1) := by decide +kernel
theorem dX16_answer_8 : decode cX16_answer 8 = .ok (.iconst 1, 1) := by decide +kernel
theorem dX16_answer_9 : decode cX16_answer 9 = .ok (.if_icmp .le 13, 3) := by decide +kernel
theorem dX16_answer_12 : decode cX16_answer 12 = .ok (.aload_n 0, 1) := by decide +kernel
theorem dX16_answer_13 : decode cX16_answer 13 = .ok (.aload_n 0, 1) := by decide +kernel
theorem dX16_answer_14 : decode cX16_answer 14 = .ok (.getfield 367, 3) := by decide +kernel
theorem dX16_answer_17 : decode cX16_answer 17 = .ok (.bipush 25, 2) := by decide +kernel
theorem dX16_answer_19 : decode cX16_answer 19 = .ok (.invokevirtual 765, 3) := by decide +kernel
theorem dX16_answer_22 : decode cX16_answer 22 = .ok (.iload_n 3, 1) := by decide +kernel
theorem dX16_answer_23 : decode cX16_answer 23 = .ok (.bipush 7, 2) := by decide +kernel
theorem dX16_answer_25 : decode cX16_answer 25 = .ok (.if_icmp .ne 103, 3) := by decide +kernel
theorem dX16_answer_28 : decode cX16_answer 28 = .ok (.aload_n 0, 1) := by decide +kernel
theorem dX16_answer_29 : decode cX16_answer 29 = .ok (.aload_n 0, 1) := by decide +kernel
theorem dX16_answer_30 : decode cX16_answer 30 = .ok (.getfield 361, 3) := by decide +kernel
theorem dX16_answer_33 : decode cX16_answer 33 = .ok (.bipush 45, 2) := by decide +kernel
theorem dX16_answer_35 : decode cX16_answer 35 = .ok (.iaload, 1) := by decide +kernel
theorem dX16_answer_36 : decode cX16_answer 36 = .ok (.putfield 565, 3) := by decide +kernel
theorem dX16_answer_39 : decode cX16_answer 39 = .ok (.iconst 0, 1) := by decide +kernel
theorem dX16_answer_40 : decode cX16_answer 40 = .ok (.istore 4, 2) := by decide +kernel
theorem dX16_answer_42 : decode cX16_answer 42 = .ok (.iload 4, 2) := by decide +kernel
theorem dX16_answer_44 : decode cX16_answer 44 = .ok (.aload_n 0, 1) := by decide +kernel
theorem dX16_answer_45 : decode cX16_answer 45 = .ok (.getfield 565, 3) := by decide +kernel
theorem dX16_answer_48 : decode cX16_answer 48 = .ok (.if_icmp .ge 66, 3) := by decide +kernel
theorem dX16_answer_51 : decode cX16_answer 51 = .ok (.aload_n 0, 1) := by decide +kernel
theorem dX16_answer_52 : decode cX16_answer 52 = .ok (.getfield 198, 3) := by decide +kernel
theorem dX16_answer_55 : decode cX16_answer 55 = .ok (.iload 4, 2) := by decide +kernel
theorem dX16_answer_57 : decode cX16_answer 57 = .ok (.aload_n 0, 1) := by decide +kernel
theorem dX16_answer_58 : decode cX16_answer 58 = .ok (.getfield 361, 3) := by decide +kernel
theorem dX16_answer_61 : decode cX16_answer 61 = .ok (.bipush 46, 2) := by decide +kernel
theorem dX16_answer_63 : decode cX16_answer 63 = .ok (.iconst 3, 1) := by decide +kernel
theorem dX16_answer_64 : decode cX16_answer 64 = .ok (.iload 4, 2) := by decide +kernel
theorem dX16_answer_66 : decode cX16_answer 66 = .ok (.imul, 1) := by decide +kernel
theorem dX16_answer_67 : decode cX16_answer 67 = .ok (.iadd, 1) := by decide +kernel
theorem dX16_answer_68 : decode cX16_answer 68 = .ok (.iaload, 1) := by decide +kernel
theorem dX16_answer_69 : decode cX16_answer 69 = .ok (.iastore, 1) := by decide +kernel
theorem dX16_answer_70 : decode cX16_answer 70 = .ok (.aload_n 0, 1) := by decide +kernel
theorem dX16_answer_71 : decode cX16_answer 71 = .ok (.getfield 201, 3) := by decide +kernel
theorem dX16_answer_74 : decode cX16_answer 74 = .ok (.iload 4, 2) := by decide +kernel
theorem dX16_answer_76 : decode cX16_answer 76 = .ok (.aload_n 0, 1) := by decide +kernel
theorem dX16_answer_77 : decode cX16_answer 77 = .ok (.getfield 361, 3) := by decide +kernel
theorem dX16_answer_80 : decode cX16_answer 80 = .ok (.bipush 47, 2) := by decide +kernel
theorem dX16_answer_82 : decode cX16_answer 82 = .ok (.iconst 3, 1) := by decide +kernel
theorem dX16_answer_83 : decode cX16_answer 83 = .ok (.iload 4, 2) := by decide +kernel
theorem dX16_answer_85 : decode cX16_answer 85 = .ok (.imul, 1) := by decide +kernel
theorem dX16_answer_86 : decode cX16_answer 86 = .ok (.iadd, 1) := by decide +kernel
theorem dX16_answer_87 : decode cX16_answer 87 = .ok (.iaload, 1) := by decide +kernel
theorem dX16_answer_88 : decode cX16_answer 88 = .ok (.iastore, 1) := by decide +kernel
theorem dX16_answer_89 : decode cX16_answer 89 = .ok (.aload_n 0, 1) := by decide +kernel
theorem dX16_answer_90 : decode cX16_answer 90 = .ok (.getfield 204, 3) := by decide +kernel
theorem dX16_answer_93 : decode cX16_answer 93 = .ok (.iload 4, 2) := by decide +kernel
theorem dX16_answer_95 : decode cX16_answer 95 = .ok (.aload_n 0, 1) := by decide +kernel
theorem dX16_answer_96 : decode cX16_answer 96 = .ok (.getfield 361, 3) := by decide +kernel
theorem dX16_answer_99 : decode cX16_answer 99 = .ok (.bipush 48, 2) := by decide +kernel
theorem dX16_answer_101 : decode cX16_answer 101 = .ok (.iconst 3, 1) := by decide +kernel
theorem dX16_answer_102 : decode cX16_answer 102 = .ok (.iload 4, 2) := by decide +kernel
theorem dX16_answer_104 : decode cX16_answer 104 = .ok (.imul, 1) := by decide +kernel
theorem dX16_answer_105 : decode cX16_answer 105 = .ok (.iadd, 1) := by decide +kernel
theorem dX16_answer_106 : decode cX16_answer 106 = .ok (.iaload, 1) := by decide +kernel
theorem dX16_answer_107 : decode cX16_answer 107 = .ok (.iastore, 1) := by decide +kernel
theorem dX16_answer_108 : decode cX16_answer 108 = .ok (.iinc 4 1, 3) := by decide +kernel
theorem dX16_answer_111 : decode cX16_answer 111 = .ok (.goto (-69), 3) := by decide +kernel
theorem dX16_answer_114 : decode cX16_answer 114 = .ok (.aload_n 0, 1) := by decide +kernel
theorem dX16_answer_115 : decode cX16_answer 115 = .ok (.iload_n 1, 1) := by decide +kernel
theorem dX16_answer_116 : decode cX16_answer 116 = .ok (.aload_n 0, 1) := by decide +kernel
theorem dX16_answer_117 : decode cX16_answer 117 = .ok (.getfield 367, 3) := by decide +kernel
theorem dX16_answer_120 : decode cX16_answer 120 = .ok (.iconst 0, 1) := by decide +kernel
theorem dX16_answer_121 : decode cX16_answer 121 = .ok (.invokevirtual 678, 3) := by decide +kernel
theorem dX16_answer_124 : decode cX16_answer 124 = .ok (.ifCond .ne 4, 3) := by decide +kernel
theorem dX16_answer_127 : decode cX16_answer 127 = .ok (.return_, 1) := by decide +kernel
theorem dX16_answer_128 : decode cX16_answer 128 = .ok (.aload_n 0, 1) := by decide +kernel
theorem dX16_answer_129 : decode cX16_answer 129 = .ok (.iload_n 1, 1) := by decide +kernel
theorem dX16_answer_130 : decode cX16_answer 130 = .ok (.iload_n 3, 1) := by decide +kernel
theorem dX16_answer_131 : decode cX16_answer 131 = .ok (.iconst 1, 1) := by decide +kernel
theorem dX16_answer_132 : decode cX16_answer 132 = .ok (.iadd, 1) := by decide +kernel
theorem dX16_answer_133 : decode cX16_answer 133 = .ok (.aload_n 0, 1) := by decide +kernel
theorem dX16_answer_134 : decode cX16_answer 134 = .ok (.invokevirtual 758, 3) := by decide +kernel
theorem dX16_answer_137 : decode cX16_answer 137 = .ok (.invokevirtual 550, 3) := by decide +kernel
theorem dX16_answer_140 : decode cX16_answer 140 = .ok (.iload_n 3, 1) := by decide +kernel
theorem dX16_answer_141 : decode cX16_answer 141 = .ok (.iconst 3, 1) := by decide +kernel
theorem dX16_answer_142 : decode cX16_answer 142 = .ok (.if_icmp .ne 11, 3) := by decide +kernel
theorem dX16_answer_145 : decode cX16_answer 145 = .ok (.aload_n 0, 1) := by decide +kernel
theorem dX16_answer_146 : decode cX16_answer 146 = .ok (.iload_n 1, 1) := by decide +kernel
theorem dX16_answer_147 : decode cX16_answer 147 = .ok (.invokevirtual 780, 3) := by decide +kernel
theorem dX16_answer_150 : decode cX16_answer 150 = .ok (.goto 248, 3) := by decide +kernel
theorem dX16_answer_153 : decode cX16_answer 153 = .ok (.iload_n 3, 1) := by decide +kernel
theorem dX16_answer_154 : decode cX16_answer 154 = .ok (.iconst 5, 1) := by decide +kernel
theorem dX16_answer_155 : decode cX16_answer 155 = .ok (.if_icmp .ne 29, 3) := by decide +kernel
theorem dX16_answer_158 : decode cX16_answer 158 = .ok (.aload_n 0, 1) := by decide +kernel
theorem dX16_answer_159 : decode cX16_answer 159 = .ok (.iload_n 1, 1) := by decide +kernel
theorem dX16_answer_160 : decode cX16_answer 160 = .ok (.aload_n 0, 1) := by decide +kernel
theorem dX16_answer_161 : decode cX16_answer 161 = .ok (.getfield 367, 3) := by decide +kernel
theorem dX16_answer_164 : decode cX16_answer 164 = .ok (.iconst 0, 1) := by decide +kernel
theorem dX16_answer_165 : decode cX16_answer 165 = .ok (.invokevirtual 598, 3) := by decide +kernel
theorem dX16_answer_168 : decode cX16_answer 168 = .ok (.aload_n 0, 1) := by decide +kernel
theorem dX16_answer_169 : decode cX16_answer 169 = .ok (.aload_n 0, 1) := by decide +kernel
theorem dX16_answer_170 : decode cX16_answer 170 = .ok (.getfield 559, 3) := by decide +kernel
theorem dX16_answer_173 : decode cX16_answer 173 = .ok (.invokevirtual 783, 3) := by decide +kernel
theorem dX16_answer_176 : decode cX16_answer 176 = .ok (.aload_n 0, 1) := by decide +kernel
theorem dX16_answer_177 : decode cX16_answer 177 = .ok (.iload_n 1, 1) := by decide +kernel
theorem dX16_answer_178 : decode cX16_answer 178 = .ok (.invokevirtual 780, 3) := by decide +kernel
theorem dX16_answer_181 : decode cX16_answer 181 = .ok (.goto 217, 3) := by decide +kernel
theorem dX16_answer_184 : decode cX16_answer 184 = .ok (.iload_n 3, 1) := by decide +kernel
theorem dX16_answer_185 : decode cX16_answer 185 = .ok (.bipush 9, 2) := by decide +kernel
theorem dX16_answer_187 : decode cX16_answer 187 = .ok (.if_icmp .ne 73, 3) := by decide +kernel
theorem dX16_answer_190 : decode cX16_answer 190 = .ok (.aload_n 0, 1) := by decide +kernel
theorem dX16_answer_191 : decode cX16_answer 191 = .ok (.iload_n 1, 1) := by decide +kernel
theorem dX16_answer_192 : decode cX16_answer 192 = .ok (.aload_n 0, 1) := by decide +kernel
theorem dX16_answer_193 : decode cX16_answer 193 = .ok (.getfield 367, 3) := by decide +kernel
theorem dX16_answer_196 : decode cX16_answer 196 = .ok (.iconst 0, 1) := by decide +kernel
theorem dX16_answer_197 : decode cX16_answer 197 = .ok (.invokevirtual 598, 3) := by decide +kernel
theorem dX16_answer_200 : decode cX16_answer 200 = .ok (.aload_n 0, 1) := by decide +kernel
theorem dX16_answer_201 : decode cX16_answer 201 = .ok (.invokevirtual 689, 3) := by decide +kernel
theorem dX16_answer_204 : decode cX16_answer 204 = .ok (.aload_n 0, 1) := by decide +kernel
theorem dX16_answer_205 : decode cX16_answer 205 = .ok (.aload_n 0, 1) := by decide +kernel
theorem dX16_answer_206 : decode cX16_answer 206 = .ok (.getfield 559, 3) := by decide +kernel
theorem dX16_answer_209 : decode cX16_answer 209 = .ok (.invokevirtual 783, 3) := by decide +kernel
theorem dX16_answer_212 : decode cX16_answer 212 = .ok (.aload_n 0, 1) := by decide +kernel
theorem dX16_answer_213 : decode cX16_answer 213 = .ok (.aload_n 0, 1) := by decide +kernel
theorem dX16_answer_214 : decode cX16_answer 214 = .ok (.getfield 583, 3) := by decide +kernel
theorem dX16_answer_217 : decode cX16_answer 217 = .ok (.invokevirtual 490, 3) := by decide +kernel
theorem dX16_answer_220 : decode cX16_answer 220 = .ok (.aload_n 0, 1) := by decide +kernel
theorem dX16_answer_221 : decode cX16_answer 221 = .ok (.aload_n 0, 1) := by decide +kernel
theorem dX16_answer_222 : decode cX16_answer 222 = .ok (.getfield 586, 3) := by decide +kernel
theorem dX16_answer_225 : decode cX16_answer 225 = .ok (.invokevirtual 783, 3) := by decide +kernel
theorem dX16_answer_228 : decode cX16_answer 228 = .ok (.iconst 0, 1) := by decide +kernel
theorem dX16_answer_229 : decode cX16_answer 229 = .ok (.istore 4, 2) := by decide +kernel
theorem dX16_answer_231 : decode cX16_answer 231 = .ok (.iload 4, 2) := by decide +kernel
theorem dX16_answer_233 : decode cX16_answer 233 = .ok (.aload_n 0, 1) := by decide +kernel
theorem dX16_answer_234 : decode cX16_answer 234 = .ok (.getfield 586, 3) := by decide +kernel
theorem dX16_answer_237 : decode cX16_answer 237 = .ok (.if_icmp .ge 20, 3) := by decide +kernel
theorem dX16_answer_240 : decode cX16_answer 240 = .ok (.aload_n 0, 1) := by decide +kernel
theorem dX16_answer_241 : decode cX16_answer 241 = .ok (.aload_n 0, 1) := by decide +kernel
theorem dX16_answer_242 : decode cX16_answer 242 = .ok (.getfield 207, 3) := by decide +kernel
theorem dX16_answer_245 : decode cX16_answer 245 = .ok (.iload 4, 2) := by decide +kernel
theorem dX16_answer_247 : decode cX16_answer 247 = .ok (.iaload, 1) := by decide +kernel
theorem dX16_answer_248 : decode cX16_answer 248 = .ok (.invokevirtual 490, 3) := by decide +kernel
theorem dX16_answer_251 : decode cX16_answer 251 = .ok (.iinc 4 1, 3) := by decide +kernel
theorem dX16_answer_254 : decode cX16_answer 254 = .ok (.goto (-23), 3) := by decide +kernel
theorem dX16_answer_257 : decode cX16_answer 257 = .ok (.goto 141, 3) := by decide +kernel
theorem dX16_answer_260 : decode cX16_answer 260 = .ok (.iload_n 3, 1) := by decide +kernel
theorem dX16_answer_261 : decode cX16_answer 261 = .ok (.bipush 11, 2) := by decide +kernel
theorem dX16_answer_263 : decode cX16_answer 263 = .ok (.if_icmp .ne 48, 3) := by decide +kernel
theorem dX16_answer_266 : decode cX16_answer 266 = .ok (.aload_n 0, 1) := by decide +kernel
theorem dX16_answer_267 : decode cX16_answer 267 = .ok (.bipush 47, 2) := by decide +kernel
theorem dX16_answer_269 : decode cX16_answer 269 = .ok (.invokevirtual 786, 3) := by decide +kernel
theorem dX16_answer_272 : decode cX16_answer 272 = .ok (.aload_n 0, 1) := by decide +kernel
theorem dX16_answer_273 : decode cX16_answer 273 = .ok (.iload_n 1, 1) := by decide +kernel
theorem dX16_answer_274 : decode cX16_answer 274 = .ok (.aload_n 0, 1) := by decide +kernel
theorem dX16_answer_275 : decode cX16_answer 275 = .ok (.getfield 367, 3) := by decide +kernel
theorem dX16_answer_278 : decode cX16_answer 278 = .ok (.iconst 0, 1) := by decide +kernel
theorem dX16_answer_279 : decode cX16_answer 279 = .ok (.aload_n 0, 1) := by decide +kernel
theorem dX16_answer_280 : decode cX16_answer 280 = .ok (.bipush 45, 2) := by decide +kernel
theorem dX16_answer_282 : decode cX16_answer 282 = .ok (.invokevirtual 752, 3) := by decide +kernel
theorem dX16_answer_285 : decode cX16_answer 285 = .ok (.invokevirtual 695, 3) := by decide +kernel
theorem dX16_answer_288 : decode cX16_answer 288 = .ok (.aload_n 0, 1) := by decide +kernel
theorem dX16_answer_289 : decode cX16_answer 289 = .ok (.aload_n 0, 1) := by decide +kernel
theorem dX16_answer_290 : decode cX16_answer 290 = .ok (.getfield 602, 3) := by decide +kernel
theorem dX16_answer_293 : decode cX16_answer 293 = .ok (.ifCond .eq 7, 3) := by decide +kernel
theorem dX16_answer_296 : decode cX16_answer 296 = .ok (.iconst 1, 1) := by decide +kernel
theorem dX16_answer_297 : decode cX16_answer 297 = .ok (.goto 4, 3) := by decide +kernel
theorem dX16_answer_300 : decode cX16_answer 300 = .ok (.iconst 0, 1) := by decide +kernel
theorem dX16_answer_301 : decode cX16_answer 301 = .ok (.invokevirtual 490, 3) := by decide +kernel
theorem dX16_answer_304 : decode cX16_answer 304 = .ok (.aload_n 0, 1) := by decide +kernel
theorem dX16_answer_305 : decode cX16_answer 305 = .ok (.invokevirtual 789, 3) := by decide +kernel
theorem dX16_answer_308 : decode cX16_answer 308 = .ok (.goto 90, 3) := by decide +kernel
theorem dX16_answer_311 : decode cX16_answer 311 = .ok (.iload_n 3, 1) := by decide +kernel
theorem dX16_answer_312 : decode cX16_answer 312 = .ok (.bipush 13, 2) := by decide +kernel
theorem dX16_answer_314 : decode cX16_answer 314 = .ok (.if_icmp .ne 84, 3) := by decide +kernel
theorem dX16_answer_317 : decode cX16_answer 317 = .ok (.aload_n 0, 1) := by decide +kernel
theorem dX16_answer_318 : decode cX16_answer 318 = .ok (.aload_n 0, 1) := by decide +kernel
theorem dX16_answer_319 : decode cX16_answer 319 = .ok (.getfield 361, 3) := by decide +kernel
theorem dX16_answer_322 : decode cX16_answer 322 = .ok (.bipush 45, 2) := by decide +kernel
theorem dX16_answer_324 : decode cX16_answer 324 = .ok (.iaload, 1) := by decide +kernel
theorem dX16_answer_325 : decode cX16_answer 325 = .ok (.putfield 612, 3) := by decide +kernel
theorem dX16_answer_328 : decode cX16_answer 328 = .ok (.iconst 0, 1) := by decide +kernel
theorem dX16_answer_329 : decode cX16_answer 329 = .ok (.istore 4, 2) := by decide +kernel
theorem dX16_answer_331 : decode cX16_answer 331 = .ok (.iload 4, 2) := by decide +kernel
theorem dX16_answer_333 : decode cX16_answer 333 = .ok (.aload_n 0, 1) := by decide +kernel
theorem dX16_answer_334 : decode cX16_answer 334 = .ok (.getfield 612, 3) := by decide +kernel
theorem dX16_answer_337 : decode cX16_answer 337 = .ok (.if_icmp .ge 47, 3) := by decide +kernel
theorem dX16_answer_340 : decode cX16_answer 340 = .ok (.aload_n 0, 1) := by decide +kernel
theorem dX16_answer_341 : decode cX16_answer 341 = .ok (.getfield 219, 3) := by decide +kernel
theorem dX16_answer_344 : decode cX16_answer 344 = .ok (.iload 4, 2) := by decide +kernel
theorem dX16_answer_346 : decode cX16_answer 346 = .ok (.aload_n 0, 1) := by decide +kernel
theorem dX16_answer_347 : decode cX16_answer 347 = .ok (.getfield 361, 3) := by decide +kernel
theorem dX16_answer_350 : decode cX16_answer 350 = .ok (.bipush 46, 2) := by decide +kernel
theorem dX16_answer_352 : decode cX16_answer 352 = .ok (.iconst 2, 1) := by decide +kernel
theorem dX16_answer_353 : decode cX16_answer 353 = .ok (.iload 4, 2) := by decide +kernel
theorem dX16_answer_355 : decode cX16_answer 355 = .ok (.imul, 1) := by decide +kernel
theorem dX16_answer_356 : decode cX16_answer 356 = .ok (.iadd, 1) := by decide +kernel
theorem dX16_answer_357 : decode cX16_answer 357 = .ok (.iaload, 1) := by decide +kernel
theorem dX16_answer_358 : decode cX16_answer 358 = .ok (.iastore, 1) := by decide +kernel
theorem dX16_answer_359 : decode cX16_answer 359 = .ok (.aload_n 0, 1) := by decide +kernel
theorem dX16_answer_360 : decode cX16_answer 360 = .ok (.getfield 222, 3) := by decide +kernel
theorem dX16_answer_363 : decode cX16_answer 363 = .ok (.iload 4, 2) := by decide +kernel
theorem dX16_answer_365 : decode cX16_answer 365 = .ok (.aload_n 0, 1) := by decide +kernel
theorem dX16_answer_366 : decode cX16_answer 366 = .ok (.getfield 361, 3) := by decide +kernel
theorem dX16_answer_369 : decode cX16_answer 369 = .ok (.bipush 47, 2) := by decide +kernel
theorem dX16_answer_371 : decode cX16_answer 371 = .ok (.iconst 2, 1) := by decide +kernel
theorem dX16_answer_372 : decode cX16_answer 372 = .ok (.iload 4, 2) := by decide +kernel
theorem dX16_answer_374 : decode cX16_answer 374 = .ok (.imul, 1) := by decide +kernel
theorem dX16_answer_375 : decode cX16_answer 375 = .ok (.iadd, 1) := by decide +kernel
theorem dX16_answer_376 : decode cX16_answer 376 = .ok (.iaload, 1) := by decide +kernel
theorem dX16_answer_377 : decode cX16_answer 377 = .ok (.iastore, 1) := by decide +kernel
theorem dX16_answer_378 : decode cX16_answer 378 = .ok (.iinc 4 1, 3) := by decide +kernel
theorem dX16_answer_381 : decode cX16_answer 381 = .ok (.goto (-50), 3) := by decide +kernel
theorem dX16_answer_384 : decode cX16_answer 384 = .ok (.aload_n 0, 1) := by decide +kernel
theorem dX16_answer_385 : decode cX16_answer 385 = .ok (.iload_n 1, 1) := by decide +kernel
theorem dX16_answer_386 : decode cX16_answer 386 = .ok (.aload_n 0, 1) := by decide +kernel
theorem dX16_answer_387 : decode cX16_answer 387 = .ok (.getfield 367, 3) := by decide +kernel
theorem dX16_answer_390 : decode cX16_answer 390 = .ok (.iconst 0, 1) := by decide +kernel
theorem dX16_answer_391 : decode cX16_answer 391 = .ok (.invokevirtual 702, 3) := by decide +kernel
theorem dX16_answer_394 : decode cX16_answer 394 = .ok (.aload_n 0, 1) := by decide +kernel
theorem dX16_answer_395 : decode cX16_answer 395 = .ok (.invokevirtual 789, 3) := by decide +kernel
theorem dX16_answer_398 : decode cX16_answer 398 = .ok (.aload_n 0, 1) := by decide +kernel
theorem dX16_answer_399 : decode cX16_answer 399 = .ok (.iload_n 1, 1) := by decide +kernel
theorem dX16_answer_400 : decode cX16_answer 400 = .ok (.iload_n 2, 1) := by decide +kernel
theorem dX16_answer_401 : decode cX16_answer 401 = .ok (.invokevirtual 556, 3) := by decide +kernel
theorem dX16_answer_404 : decode cX16_answer 404 = .ok (.return_, 1) := by decide +kernel
def j_X16_answer_398 (x1 x2 : Int) (V : VV) : Option (VV) :=
  (f_X16_send x1 x2 V).bind fun V1 =>
  some V1
def j_X16_answer_384 (x1 x2 : Int) (V : VV) : Option (VV) :=
  (f_X16_findChecked x1 273 0 V).bind fun V1 =>
  (f_X16_tellPostings V1).bind fun V2 =>
  j_X16_answer_398 x1 x2 V2
def b_X16_answer_331 (x1 x2 x4 : Int) (V : VV) : Option ((Int × VV) ⊕ (VV)) :=
  if w32 x4 < w32 (w32 (V 156 88)) then
    (l2 271 460 (46 + (2 * x4)) V).bind fun v1 =>
    (s2 224 30 x4 v1 V).bind fun V1 =>
    (l2 271 460 (47 + (2 * x4)) V1).bind fun v2 =>
    (s2 225 30 x4 v2 V1).bind fun V2 =>
    cnt (x4 + 1, V2)
  else
    xit (j_X16_answer_384 x1 x2 V)
def l_X16_answer_331 (x1 x2 x4 : Int) (V : VV) : Option (VV) := lpN (fun s : Int × VV => b_X16_answer_331 x1 x2 s.1 s.2) FU (x4, V)
def j_X16_answer_301 (x1 x2 y1 : Int) (V : VV) : Option (VV) :=
  (f_X16_byteOut y1 V).bind fun V1 =>
  (f_X16_tellPostings V1).bind fun V2 =>
  j_X16_answer_398 x1 x2 V2
def j_X16_answer_257 (x1 x2 : Int) (V : VV) : Option (VV) :=
  j_X16_answer_398 x1 x2 V
def b_X16_answer_231 (x1 x2 x4 : Int) (V : VV) : Option ((Int × VV) ⊕ (VV)) :=
  if w32 x4 < w32 (w32 (V 156 78)) then
    (l2 220 290 x4 V).bind fun v1 =>
    (f_X16_byteOut v1 V).bind fun V1 =>
    cnt (x4 + 1, V1)
  else
    xit (j_X16_answer_257 x1 x2 V)
def l_X16_answer_231 (x1 x2 x4 : Int) (V : VV) : Option (VV) := lpN (fun s : Int × VV => b_X16_answer_231 x1 x2 s.1 s.2) FU (x4, V)
def j_X16_answer_128 (x1 x2 x3 : Int) (V : VV) : Option (VV) :=
  (f_X16_numberIn V).bind fun v1 =>
  (f_X16_head x1 (x3 + 1) v1 V).bind fun V1 =>
  if w32 x3 = w32 3 then
    (f_X16_tellNodes x1 V1).bind fun V13 =>
    j_X16_answer_398 x1 x2 V13
  else
    if w32 x3 = w32 5 then
      (f_X16_choose x1 273 0 V1).bind fun V10 =>
      (f_X16_pairOut (w32 (V10 156 72)) V10).bind fun V11 =>
      (f_X16_tellNodes x1 V11).bind fun V12 =>
      j_X16_answer_398 x1 x2 V12
    else
      if w32 x3 = w32 9 then
        (f_X16_choose x1 273 0 V1).bind fun V5 =>
        (f_X16_makeFilter V5).bind fun V6 =>
        (f_X16_pairOut (w32 (V6 156 72)) V6).bind fun V7 =>
        (f_X16_byteOut (w32 (V7 156 79)) V7).bind fun V8 =>
        (f_X16_pairOut (w32 (V8 156 78)) V8).bind fun V9 =>
        l_X16_answer_231 x1 x2 0 V9
      else
        if w32 x3 = w32 11 then
          (f_X16_takeFilter 47 V1).bind fun V3 =>
          (f_X16_pairAt 45 V3).bind fun v3 =>
          (f_X16_findMatches x1 273 0 v3 V3).bind fun V4 =>
          if w32 (w32 (V4 156 84)) = 0 then
            j_X16_answer_301 x1 x2 0 V4
          else
            j_X16_answer_301 x1 x2 1 V4
        else
          if w32 x3 = w32 13 then
            (l2 271 460 45 V1).bind fun v2 =>
            (p2 88 v2 V1).bind fun V2 =>
            l_X16_answer_331 x1 x2 0 V2
          else
            j_X16_answer_398 x1 x2 V1
def j_X16_answer_114 (x1 x2 x3 : Int) (V : VV) : Option (VV) :=
  (f_X16_keep x1 273 0 V).bind fun r1 =>
  if w32 r1.1 = 0 then
    some r1.2
  else
    j_X16_answer_128 x1 x2 x3 r1.2
def b_X16_answer_42 (x1 x2 x3 x4 : Int) (V : VV) : Option ((Int × VV) ⊕ (VV)) :=
  if w32 x4 < w32 (w32 (V 156 74)) then
    (l2 271 460 (46 + (3 * x4)) V).bind fun v1 =>
    (s2 217 16 x4 v1 V).bind fun V1 =>
    (l2 271 460 (47 + (3 * x4)) V1).bind fun v2 =>
    (s2 218 16 x4 v2 V1).bind fun V2 =>
    (l2 271 460 (48 + (3 * x4)) V2).bind fun v3 =>
    (s2 219 16 x4 v3 V2).bind fun V3 =>
    cnt (x4 + 1, V3)
  else
    xit (j_X16_answer_114 x1 x2 x3 V)
def l_X16_answer_42 (x1 x2 x3 x4 : Int) (V : VV) : Option (VV) := lpN (fun s : Int × VV => b_X16_answer_42 x1 x2 x3 s.1 s.2) FU (x4, V)
def j_X16_answer_22 (x1 x2 x3 : Int) (V : VV) : Option (VV) :=
  if w32 x3 = w32 7 then
    (l2 271 460 45 V).bind fun v1 =>
    (p2 74 v1 V).bind fun V1 =>
    l_X16_answer_42 x1 x2 x3 0 V1
  else
    j_X16_answer_128 x1 x2 x3 V
def f_X16_answer (x1 x2 : Int) (V : VV) : Option (VV) :=
  (l2 271 460 0 V).bind fun v1 =>
  if w32 1 < w32 v1 then
    (f_X16_keyAt 273 25 V).bind fun V1 =>
    j_X16_answer_22 x1 x2 v1 V1
  else
    j_X16_answer_22 x1 x2 v1 V
theorem s_X16_answer_398 {g : GG} {d : Nat} (hD : 6 ≤ d) {x1 x2 : Int} {M : MM} (hM : LM M) {V : VV} {o : AV × MM} {P : (VV) → Prop} (r0 : ∀ r : VV, P r → o = ((9, 0), (wr M r))) {z : VV} (h : j_X16_answer_398 x1 x2 V = some z) (hz : P z) : Sem g d YX16_answer 398 [(1, 156), (0, x1), (0, x2), (9, 0), (9, 0)] [] (wr M V) o := by
  delta j_X16_answer_398 at h
  refine S_aload_n (i := 0) dX16_answer_398 rfl rfl ?_
  refine S_iload_n (i := 1) dX16_answer_399 rfl rfl ?_
  refine S_iload_n (i := 2) dX16_answer_400 rfl rfl ?_
  refine P2_invVm hM [(0, x1), (0, x2)] [] CVX16_send MLX16_556 dX16_answer_401 rfl rfl rfl rfl (by omega) h (fun r h => F_X16_send (by omega) hM h) (fun V1 h => ?_)
  obtain rfl := r0 _ (some_P (P := fun r => P r) h hz)
  exact S_return dX16_answer_404 rfl
theorem s_X16_answer_384 {g : GG} {d : Nat} (hD : 6 ≤ d) {x1 x2 : Int} {M : MM} (hM : LM M) {V : VV} {o : AV × MM} {P : (VV) → Prop} (r0 : ∀ r : VV, P r → o = ((9, 0), (wr M r))) {z : VV} (h : j_X16_answer_384 x1 x2 V = some z) (hz : P z) : Sem g d YX16_answer 384 [(1, 156), (0, x1), (0, x2), (9, 0), (9, 0)] [] (wr M V) o := by
  delta j_X16_answer_384 at h
  refine S_aload_n (i := 0) dX16_answer_384 rfl rfl ?_
  refine S_iload_n (i := 1) dX16_answer_385 rfl rfl ?_
  refine S_aload_n (i := 0) dX16_answer_386 rfl rfl ?_
  refine P2_gfr hM (a := 273) FLX16_367 rfl ⟨rfl, rfl⟩ dX16_answer_387 ?_
  refine S_iconst dX16_answer_390 rfl ?_
  refine P2_invVm hM [(0, x1), (1, 273), (0, 0)] [] CVX16_findChecked MLX16_702 dX16_answer_391 rfl rfl rfl rfl (by omega) h (fun r h => F_X16_findChecked (by omega) hM h) (fun V1 h => ?_)
  refine S_aload_n (i := 0) dX16_answer_394 rfl rfl ?_
  refine P2_invVm hM [] [] CVX16_tellPostings MLX16_789 dX16_answer_395 rfl rfl rfl rfl (by omega) h (fun r h => F_X16_tellPostings (by omega) hM h) (fun V2 h => ?_)
  exact s_X16_answer_398 hD hM r0 h hz
theorem s_X16_answer_331 {g : GG} {d : Nat} (hD : 6 ≤ d) {x1 x2 x4 : Int} {M : MM} (hM : LM M) {V : VV} {o : AV × MM} {P : ((Int × VV) ⊕ (VV)) → Prop} (c0 : ∀ s : Int × VV, P (.inl s) → Sem g d YX16_answer 331 [(1, 156), (0, x1), (0, x2), (9, 0), (0, s.1)] [] (wr M s.2) o) (r0 : ∀ r : VV, P (.inr r) → o = ((9, 0), (wr M r))) {z : (Int × VV) ⊕ (VV)} (h : b_X16_answer_331 x1 x2 x4 V = some z) (hz : P z) : Sem g d YX16_answer 331 [(1, 156), (0, x1), (0, x2), (9, 0), (0, x4)] [] (wr M V) o := by
  delta b_X16_answer_331 at h
  refine S_iload dX16_answer_331 rfl ?_
  refine S_aload_n (i := 0) dX16_answer_333 rfl rfl ?_
  refine P2_gfi hM FLX16_612 rfl dX16_answer_334 ?_
  refine P_icmp_ge (tgt := 384) dX16_answer_337 rfl h (fun h => ?_) (fun h => ?_)
  · refine S_weak (ls' := [(1, 156), (0, x1), (0, x2), (9, 0), (9, 0)]) ⟨Or.inr rfl, ⟨Or.inr rfl, ⟨Or.inr rfl, ⟨Or.inl rfl, ⟨Or.inl rfl, trivial⟩⟩⟩⟩⟩ ?_
    obtain ⟨z0, h, hz⟩ := xit_some' (P := fun r => P r) h hz
    exact s_X16_answer_384 hD hM (P := fun r => P (.inr r)) r0 h hz
  · refine S_aload_n (i := 0) dX16_answer_340 rfl rfl ?_
    refine P2_gfr hM (a := 224) FLX16_219 rfl ⟨rfl, rfl⟩ dX16_answer_341 ?_
    refine S_iload dX16_answer_344 rfl ?_
    refine S_aload_n (i := 0) dX16_answer_346 rfl rfl ?_
    refine P2_gfr hM (a := 271) FLX16_361 rfl ⟨rfl, rfl⟩ dX16_answer_347 ?_
    refine S_bipush (z := 46) dX16_answer_350 rfl ?_
    refine S_iconst dX16_answer_352 rfl ?_
    refine S_iload dX16_answer_353 rfl ?_
    refine S_imul dX16_answer_355 ?_
    refine S_iadd dX16_answer_356 ?_
    refine P2_lai hM (a := 271) (n := 460) rfl dX16_answer_357 h (fun v1 h => ?_)
    refine P2_sai hM (a := 224) (n := 30) rfl dX16_answer_358 h (fun V1 h => ?_)
    refine S_aload_n (i := 0) dX16_answer_359 rfl rfl ?_
    refine P2_gfr hM (a := 225) FLX16_222 rfl ⟨rfl, rfl⟩ dX16_answer_360 ?_
    refine S_iload dX16_answer_363 rfl ?_
    refine S_aload_n (i := 0) dX16_answer_365 rfl rfl ?_
    refine P2_gfr hM (a := 271) FLX16_361 rfl ⟨rfl, rfl⟩ dX16_answer_366 ?_
    refine S_bipush (z := 47) dX16_answer_369 rfl ?_
    refine S_iconst dX16_answer_371 rfl ?_
    refine S_iload dX16_answer_372 rfl ?_
    refine S_imul dX16_answer_374 ?_
    refine S_iadd dX16_answer_375 ?_
    refine P2_lai hM (a := 271) (n := 460) rfl dX16_answer_376 h (fun v2 h => ?_)
    refine P2_sai hM (a := 225) (n := 30) rfl dX16_answer_377 h (fun V2 h => ?_)
    refine S_iinc dX16_answer_378 rfl rfl rfl ?_
    change Sem g d YX16_answer 381 [(1, 156), (0, x1), (0, x2), (9, 0), (0, x4 + 1)] [] (wr M V2) o
    refine S_goto (tgt := 331) dX16_answer_381 rfl ?_
    exact c0 (x4 + 1, V2) (some_P (P := fun r => P r) h hz)
theorem sl_X16_answer_331 {g : GG} {d : Nat} (hD : 6 ≤ d) {x1 x2 x4 : Int} {M : MM} (hM : LM M) {V : VV} {o : AV × MM} {P : (VV) → Prop} (r0 : ∀ r : VV, P r → o = ((9, 0), (wr M r))) {z : VV} (h : l_X16_answer_331 x1 x2 x4 V = some z) (hz : P z) : Sem g d YX16_answer 331 [(1, 156), (0, x1), (0, x2), (9, 0), (0, x4)] [] (wr M V) o := by
  refine lp_sound (S := fun s : Int × VV => Sem g d YX16_answer 331 [(1, 156), (0, x1), (0, x2), (9, 0), (0, s.1)] [] (wr M s.2) o) (P := P) ?_ FU (x4, V) z h hz
  intro s x hx hP
  exact s_X16_answer_331 hD hM (P := Sum.elim (fun s : Int × VV => Sem g d YX16_answer 331 [(1, 156), (0, x1), (0, x2), (9, 0), (0, s.1)] [] (wr M s.2) o) P) (fun s h => h) (fun s h => r0 s h) hx hP
theorem s_X16_answer_301 {g : GG} {d : Nat} (hD : 6 ≤ d) {x1 x2 y1 : Int} {M : MM} (hM : LM M) {V : VV} {o : AV × MM} {P : (VV) → Prop} (r0 : ∀ r : VV, P r → o = ((9, 0), (wr M r))) {z : VV} (h : j_X16_answer_301 x1 x2 y1 V = some z) (hz : P z) : Sem g d YX16_answer 301 [(1, 156), (0, x1), (0, x2), (9, 0), (9, 0)] [(0, y1), (1, 156)] (wr M V) o := by
  delta j_X16_answer_301 at h
  refine P2_invVm hM [(0, y1)] [] CVX16_byteOut MLX16_490 dX16_answer_301 rfl rfl rfl rfl (by omega) h (fun r h => F_X16_byteOut (by omega) hM h) (fun V1 h => ?_)
  refine S_aload_n (i := 0) dX16_answer_304 rfl rfl ?_
  refine P2_invVm hM [] [] CVX16_tellPostings MLX16_789 dX16_answer_305 rfl rfl rfl rfl (by omega) h (fun r h => F_X16_tellPostings (by omega) hM h) (fun V2 h => ?_)
  refine S_goto (tgt := 398) dX16_answer_308 rfl ?_
  exact s_X16_answer_398 hD hM r0 h hz
theorem s_X16_answer_257 {g : GG} {d : Nat} (hD : 6 ≤ d) {x1 x2 : Int} {M : MM} (hM : LM M) {V : VV} {o : AV × MM} {P : (VV) → Prop} (r0 : ∀ r : VV, P r → o = ((9, 0), (wr M r))) {z : VV} (h : j_X16_answer_257 x1 x2 V = some z) (hz : P z) : Sem g d YX16_answer 257 [(1, 156), (0, x1), (0, x2), (9, 0), (9, 0)] [] (wr M V) o := by
  delta j_X16_answer_257 at h
  refine S_goto (tgt := 398) dX16_answer_257 rfl ?_
  exact s_X16_answer_398 hD hM r0 h hz
theorem s_X16_answer_231 {g : GG} {d : Nat} (hD : 6 ≤ d) {x1 x2 x4 : Int} {M : MM} (hM : LM M) {V : VV} {o : AV × MM} {P : ((Int × VV) ⊕ (VV)) → Prop} (c0 : ∀ s : Int × VV, P (.inl s) → Sem g d YX16_answer 231 [(1, 156), (0, x1), (0, x2), (9, 0), (0, s.1)] [] (wr M s.2) o) (r0 : ∀ r : VV, P (.inr r) → o = ((9, 0), (wr M r))) {z : (Int × VV) ⊕ (VV)} (h : b_X16_answer_231 x1 x2 x4 V = some z) (hz : P z) : Sem g d YX16_answer 231 [(1, 156), (0, x1), (0, x2), (9, 0), (0, x4)] [] (wr M V) o := by
  delta b_X16_answer_231 at h
  refine S_iload dX16_answer_231 rfl ?_
  refine S_aload_n (i := 0) dX16_answer_233 rfl rfl ?_
  refine P2_gfi hM FLX16_586 rfl dX16_answer_234 ?_
  refine P_icmp_ge (tgt := 257) dX16_answer_237 rfl h (fun h => ?_) (fun h => ?_)
  · refine S_weak (ls' := [(1, 156), (0, x1), (0, x2), (9, 0), (9, 0)]) ⟨Or.inr rfl, ⟨Or.inr rfl, ⟨Or.inr rfl, ⟨Or.inl rfl, ⟨Or.inl rfl, trivial⟩⟩⟩⟩⟩ ?_
    obtain ⟨z0, h, hz⟩ := xit_some' (P := fun r => P r) h hz
    exact s_X16_answer_257 hD hM (P := fun r => P (.inr r)) r0 h hz
  · refine S_aload_n (i := 0) dX16_answer_240 rfl rfl ?_
    refine S_aload_n (i := 0) dX16_answer_241 rfl rfl ?_
    refine P2_gfr hM (a := 220) FLX16_207 rfl ⟨rfl, rfl⟩ dX16_answer_242 ?_
    refine S_iload dX16_answer_245 rfl ?_
    refine P2_lai hM (a := 220) (n := 290) rfl dX16_answer_247 h (fun v1 h => ?_)
    refine P2_invVm hM [(0, v1)] [] CVX16_byteOut MLX16_490 dX16_answer_248 rfl rfl rfl rfl (by omega) h (fun r h => F_X16_byteOut (by omega) hM h) (fun V1 h => ?_)
    refine S_iinc dX16_answer_251 rfl rfl rfl ?_
    change Sem g d YX16_answer 254 [(1, 156), (0, x1), (0, x2), (9, 0), (0, x4 + 1)] [] (wr M V1) o
    refine S_goto (tgt := 231) dX16_answer_254 rfl ?_
    exact c0 (x4 + 1, V1) (some_P (P := fun r => P r) h hz)
theorem sl_X16_answer_231 {g : GG} {d : Nat} (hD : 6 ≤ d) {x1 x2 x4 : Int} {M : MM} (hM : LM M) {V : VV} {o : AV × MM} {P : (VV) → Prop} (r0 : ∀ r : VV, P r → o = ((9, 0), (wr M r))) {z : VV} (h : l_X16_answer_231 x1 x2 x4 V = some z) (hz : P z) : Sem g d YX16_answer 231 [(1, 156), (0, x1), (0, x2), (9, 0), (0, x4)] [] (wr M V) o := by
  refine lp_sound (S := fun s : Int × VV => Sem g d YX16_answer 231 [(1, 156), (0, x1), (0, x2), (9, 0), (0, s.1)] [] (wr M s.2) o) (P := P) ?_ FU (x4, V) z h hz
  intro s x hx hP
  exact s_X16_answer_231 hD hM (P := Sum.elim (fun s : Int × VV => Sem g d YX16_answer 231 [(1, 156), (0, x1), (0, x2), (9, 0), (0, s.1)] [] (wr M s.2) o) P) (fun s h => h) (fun s h => r0 s h) hx hP
theorem s_X16_answer_128 {g : GG} {d : Nat} (hD : 6 ≤ d) {x1 x2 x3 : Int} {M : MM} (hM : LM M) {V : VV} {o : AV × MM} {P : (VV) → Prop} (r0 : ∀ r : VV, P r → o = ((9, 0), (wr M r))) {z : VV} (h : j_X16_answer_128 x1 x2 x3 V = some z) (hz : P z) : Sem g d YX16_answer 128 [(1, 156), (0, x1), (0, x2), (0, x3), (9, 0)] [] (wr M V) o := by
  delta j_X16_answer_128 at h
  refine S_aload_n (i := 0) dX16_answer_128 rfl rfl ?_
  refine S_iload_n (i := 1) dX16_answer_129 rfl rfl ?_
  refine S_iload_n (i := 3) dX16_answer_130 rfl rfl ?_
  refine S_iconst dX16_answer_131 rfl ?_
  refine S_iadd dX16_answer_132 ?_
  refine S_aload_n (i := 0) dX16_answer_133 rfl rfl ?_
  refine P2_invVp hM 0 [] [(0, x3 + 1), (0, x1), (1, 156)] CVX16_numberIn MLX16_758 dX16_answer_134 rfl rfl rfl rfl rfl (by omega) h (fun r h => F_X16_numberIn (by omega) hM h) (fun v1 h => ?_)
  refine P2_invVm hM [(0, x1), (0, x3 + 1), (0, v1)] [] CVX16_head MLX16_550 dX16_answer_137 rfl rfl rfl rfl (by omega) h (fun r h => F_X16_head (by omega) hM h) (fun V1 h => ?_)
  refine S_iload_n (i := 3) dX16_answer_140 rfl rfl ?_
  refine S_iconst dX16_answer_141 rfl ?_
  refine P_icmp_ne (tgt := 153) dX16_answer_142 rfl h (fun h => ?_) (fun h => ?_)
  · refine S_iload_n (i := 3) dX16_answer_153 rfl rfl ?_
    refine S_iconst dX16_answer_154 rfl ?_
    refine P_icmp_ne (tgt := 184) dX16_answer_155 rfl h (fun h => ?_) (fun h => ?_)
    · refine S_iload_n (i := 3) dX16_answer_184 rfl rfl ?_
      refine S_bipush (z := 9) dX16_answer_185 rfl ?_
      refine P_icmp_ne (tgt := 260) dX16_answer_187 rfl h (fun h => ?_) (fun h => ?_)
      · refine S_iload_n (i := 3) dX16_answer_260 rfl rfl ?_
        refine S_bipush (z := 11) dX16_answer_261 rfl ?_
        refine P_icmp_ne (tgt := 311) dX16_answer_263 rfl h (fun h => ?_) (fun h => ?_)
        · refine S_iload_n (i := 3) dX16_answer_311 rfl rfl ?_
          refine S_bipush (z := 13) dX16_answer_312 rfl ?_
          refine P_icmp_ne (tgt := 398) dX16_answer_314 rfl h (fun h => ?_) (fun h => ?_)
          · refine S_weak (ls' := [(1, 156), (0, x1), (0, x2), (9, 0), (9, 0)]) ⟨Or.inr rfl, ⟨Or.inr rfl, ⟨Or.inr rfl, ⟨Or.inl rfl, ⟨Or.inl rfl, trivial⟩⟩⟩⟩⟩ ?_
            exact s_X16_answer_398 hD hM r0 h hz
          · refine S_aload_n (i := 0) dX16_answer_317 rfl rfl ?_
            refine S_aload_n (i := 0) dX16_answer_318 rfl rfl ?_
            refine P2_gfr hM (a := 271) FLX16_361 rfl ⟨rfl, rfl⟩ dX16_answer_319 ?_
            refine S_bipush (z := 45) dX16_answer_322 rfl ?_
            refine P2_lai hM (a := 271) (n := 460) rfl dX16_answer_324 h (fun v2 h => ?_)
            refine P2_pfi hM FLX16_612 FPX16_612 rfl dX16_answer_325 h (fun V2 h => ?_)
            refine S_iconst dX16_answer_328 rfl ?_
            refine S_istore dX16_answer_329 (Nat.le_of_ble_eq_true rfl) rfl rfl ?_
            change Sem g d YX16_answer 331 [(1, 156), (0, x1), (0, x2), (0, x3), (0, 0)] [] (wr M V2) o
            refine S_weak (ls' := [(1, 156), (0, x1), (0, x2), (9, 0), (0, 0)]) ⟨Or.inr rfl, ⟨Or.inr rfl, ⟨Or.inr rfl, ⟨Or.inl rfl, ⟨Or.inr rfl, trivial⟩⟩⟩⟩⟩ ?_
            exact sl_X16_answer_331 hD hM r0 h hz
        · refine S_aload_n (i := 0) dX16_answer_266 rfl rfl ?_
          refine S_bipush (z := 47) dX16_answer_267 rfl ?_
          refine P2_invVm hM [(0, 47)] [] CVX16_takeFilter MLX16_786 dX16_answer_269 rfl rfl rfl rfl (by omega) h (fun r h => F_X16_takeFilter (by omega) hM h) (fun V3 h => ?_)
          refine S_aload_n (i := 0) dX16_answer_272 rfl rfl ?_
          refine S_iload_n (i := 1) dX16_answer_273 rfl rfl ?_
          refine S_aload_n (i := 0) dX16_answer_274 rfl rfl ?_
          refine P2_gfr hM (a := 273) FLX16_367 rfl ⟨rfl, rfl⟩ dX16_answer_275 ?_
          refine S_iconst dX16_answer_278 rfl ?_
          refine S_aload_n (i := 0) dX16_answer_279 rfl rfl ?_
          refine S_bipush (z := 45) dX16_answer_280 rfl ?_
          refine P2_invVp hM 0 [(0, 45)] [(0, 0), (1, 273), (0, x1), (1, 156)] CVX16_pairAt MLX16_752 dX16_answer_282 rfl rfl rfl rfl rfl (by omega) h (fun r h => F_X16_pairAt (by omega) hM h) (fun v3 h => ?_)
          refine P2_invVm hM [(0, x1), (1, 273), (0, 0), (0, v3)] [] CVX16_findMatches MLX16_695 dX16_answer_285 rfl rfl rfl rfl (by omega) h (fun r h => F_X16_findMatches (by omega) hM h) (fun V4 h => ?_)
          refine S_aload_n (i := 0) dX16_answer_288 rfl rfl ?_
          refine S_aload_n (i := 0) dX16_answer_289 rfl rfl ?_
          refine P2_gfi hM FLX16_602 rfl dX16_answer_290 ?_
          refine P_if_eq (tgt := 300) dX16_answer_293 rfl h (fun h => ?_) (fun h => ?_)
          · refine S_iconst dX16_answer_300 rfl ?_
            refine S_weak (ls' := [(1, 156), (0, x1), (0, x2), (9, 0), (9, 0)]) ⟨Or.inr rfl, ⟨Or.inr rfl, ⟨Or.inr rfl, ⟨Or.inl rfl, ⟨Or.inl rfl, trivial⟩⟩⟩⟩⟩ ?_
            exact s_X16_answer_301 hD hM r0 h hz
          · refine S_iconst dX16_answer_296 rfl ?_
            refine S_goto (tgt := 301) dX16_answer_297 rfl ?_
            refine S_weak (ls' := [(1, 156), (0, x1), (0, x2), (9, 0), (9, 0)]) ⟨Or.inr rfl, ⟨Or.inr rfl, ⟨Or.inr rfl, ⟨Or.inl rfl, ⟨Or.inl rfl, trivial⟩⟩⟩⟩⟩ ?_
            exact s_X16_answer_301 hD hM r0 h hz
      · refine S_aload_n (i := 0) dX16_answer_190 rfl rfl ?_
        refine S_iload_n (i := 1) dX16_answer_191 rfl rfl ?_
        refine S_aload_n (i := 0) dX16_answer_192 rfl rfl ?_
        refine P2_gfr hM (a := 273) FLX16_367 rfl ⟨rfl, rfl⟩ dX16_answer_193 ?_
        refine S_iconst dX16_answer_196 rfl ?_
        refine P2_invVm hM [(0, x1), (1, 273), (0, 0)] [] CVX16_choose MLX16_598 dX16_answer_197 rfl rfl rfl rfl (by omega) h (fun r h => F_X16_choose (by omega) hM h) (fun V5 h => ?_)
        refine S_aload_n (i := 0) dX16_answer_200 rfl rfl ?_
        refine P2_invVm hM [] [] CVX16_makeFilter MLX16_689 dX16_answer_201 rfl rfl rfl rfl (by omega) h (fun r h => F_X16_makeFilter (by omega) hM h) (fun V6 h => ?_)
        refine S_aload_n (i := 0) dX16_answer_204 rfl rfl ?_
        refine S_aload_n (i := 0) dX16_answer_205 rfl rfl ?_
        refine P2_gfi hM FLX16_559 rfl dX16_answer_206 ?_
        refine P2_invVm hM [(0, w32 (V6 156 72))] [] CVX16_pairOut MLX16_783 dX16_answer_209 rfl rfl rfl rfl (by omega) h (fun r h => F_X16_pairOut (by omega) hM h) (fun V7 h => ?_)
        refine S_aload_n (i := 0) dX16_answer_212 rfl rfl ?_
        refine S_aload_n (i := 0) dX16_answer_213 rfl rfl ?_
        refine P2_gfi hM FLX16_583 rfl dX16_answer_214 ?_
        refine P2_invVm hM [(0, w32 (V7 156 79))] [] CVX16_byteOut MLX16_490 dX16_answer_217 rfl rfl rfl rfl (by omega) h (fun r h => F_X16_byteOut (by omega) hM h) (fun V8 h => ?_)
        refine S_aload_n (i := 0) dX16_answer_220 rfl rfl ?_
        refine S_aload_n (i := 0) dX16_answer_221 rfl rfl ?_
        refine P2_gfi hM FLX16_586 rfl dX16_answer_222 ?_
        refine P2_invVm hM [(0, w32 (V8 156 78))] [] CVX16_pairOut MLX16_783 dX16_answer_225 rfl rfl rfl rfl (by omega) h (fun r h => F_X16_pairOut (by omega) hM h) (fun V9 h => ?_)
        refine S_iconst dX16_answer_228 rfl ?_
        refine S_istore dX16_answer_229 (Nat.le_of_ble_eq_true rfl) rfl rfl ?_
        change Sem g d YX16_answer 231 [(1, 156), (0, x1), (0, x2), (0, x3), (0, 0)] [] (wr M V9) o
        refine S_weak (ls' := [(1, 156), (0, x1), (0, x2), (9, 0), (0, 0)]) ⟨Or.inr rfl, ⟨Or.inr rfl, ⟨Or.inr rfl, ⟨Or.inl rfl, ⟨Or.inr rfl, trivial⟩⟩⟩⟩⟩ ?_
        exact sl_X16_answer_231 hD hM r0 h hz
    · refine S_aload_n (i := 0) dX16_answer_158 rfl rfl ?_
      refine S_iload_n (i := 1) dX16_answer_159 rfl rfl ?_
      refine S_aload_n (i := 0) dX16_answer_160 rfl rfl ?_
      refine P2_gfr hM (a := 273) FLX16_367 rfl ⟨rfl, rfl⟩ dX16_answer_161 ?_
      refine S_iconst dX16_answer_164 rfl ?_
      refine P2_invVm hM [(0, x1), (1, 273), (0, 0)] [] CVX16_choose MLX16_598 dX16_answer_165 rfl rfl rfl rfl (by omega) h (fun r h => F_X16_choose (by omega) hM h) (fun V10 h => ?_)
      refine S_aload_n (i := 0) dX16_answer_168 rfl rfl ?_
      refine S_aload_n (i := 0) dX16_answer_169 rfl rfl ?_
      refine P2_gfi hM FLX16_559 rfl dX16_answer_170 ?_
      refine P2_invVm hM [(0, w32 (V10 156 72))] [] CVX16_pairOut MLX16_783 dX16_answer_173 rfl rfl rfl rfl (by omega) h (fun r h => F_X16_pairOut (by omega) hM h) (fun V11 h => ?_)
      refine S_aload_n (i := 0) dX16_answer_176 rfl rfl ?_
      refine S_iload_n (i := 1) dX16_answer_177 rfl rfl ?_
      refine P2_invVm hM [(0, x1)] [] CVX16_tellNodes MLX16_780 dX16_answer_178 rfl rfl rfl rfl (by omega) h (fun r h => F_X16_tellNodes (by omega) hM h) (fun V12 h => ?_)
      refine S_goto (tgt := 398) dX16_answer_181 rfl ?_
      refine S_weak (ls' := [(1, 156), (0, x1), (0, x2), (9, 0), (9, 0)]) ⟨Or.inr rfl, ⟨Or.inr rfl, ⟨Or.inr rfl, ⟨Or.inl rfl, ⟨Or.inl rfl, trivial⟩⟩⟩⟩⟩ ?_
      exact s_X16_answer_398 hD hM r0 h hz
  · refine S_aload_n (i := 0) dX16_answer_145 rfl rfl ?_
    refine S_iload_n (i := 1) dX16_answer_146 rfl rfl ?_
    refine P2_invVm hM [(0, x1)] [] CVX16_tellNodes MLX16_780 dX16_answer_147 rfl rfl rfl rfl (by omega) h (fun r h => F_X16_tellNodes (by omega) hM h) (fun V13 h => ?_)
    refine S_goto (tgt := 398) dX16_answer_150 rfl ?_
    refine S_weak (ls' := [(1, 156), (0, x1), (0, x2), (9, 0), (9, 0)]) ⟨Or.inr rfl, ⟨Or.inr rfl, ⟨Or.inr rfl, ⟨Or.inl rfl, ⟨Or.inl rfl, trivial⟩⟩⟩⟩⟩ ?_
    exact s_X16_answer_398 hD hM r0 h hz
theorem s_X16_answer_114 {g : GG} {d : Nat} (hD : 6 ≤ d) {x1 x2 x3 : Int} {M : MM} (hM : LM M) {V : VV} {o : AV × MM} {P : (VV) → Prop} (r0 : ∀ r : VV, P r → o = ((9, 0), (wr M r))) {z : VV} (h : j_X16_answer_114 x1 x2 x3 V = some z) (hz : P z) : Sem g d YX16_answer 114 [(1, 156), (0, x1), (0, x2), (0, x3), (9, 0)] [] (wr M V) o := by
  delta j_X16_answer_114 at h
  refine S_aload_n (i := 0) dX16_answer_114 rfl rfl ?_
  refine S_iload_n (i := 1) dX16_answer_115 rfl rfl ?_
  refine S_aload_n (i := 0) dX16_answer_116 rfl rfl ?_
  refine P2_gfr hM (a := 273) FLX16_367 rfl ⟨rfl, rfl⟩ dX16_answer_117 ?_
  refine S_iconst dX16_answer_120 rfl ?_
  refine P2_invVe hM 0 [(0, x1), (1, 273), (0, 0)] [] CVX16_keep MLX16_678 dX16_answer_121 rfl rfl rfl rfl rfl (by omega) h (fun r h => F_X16_keep (by omega) hM h) (fun r1 h => ?_)
  refine P_if_ne (tgt := 128) dX16_answer_124 rfl h (fun h => ?_) (fun h => ?_)
  · exact s_X16_answer_128 hD hM r0 h hz
  · obtain rfl := r0 _ (some_P (P := fun r => P r) h hz)
    exact S_return dX16_answer_127 rfl
theorem s_X16_answer_42 {g : GG} {d : Nat} (hD : 6 ≤ d) {x1 x2 x3 x4 : Int} {M : MM} (hM : LM M) {V : VV} {o : AV × MM} {P : ((Int × VV) ⊕ (VV)) → Prop} (c0 : ∀ s : Int × VV, P (.inl s) → Sem g d YX16_answer 42 [(1, 156), (0, x1), (0, x2), (0, x3), (0, s.1)] [] (wr M s.2) o) (r0 : ∀ r : VV, P (.inr r) → o = ((9, 0), (wr M r))) {z : (Int × VV) ⊕ (VV)} (h : b_X16_answer_42 x1 x2 x3 x4 V = some z) (hz : P z) : Sem g d YX16_answer 42 [(1, 156), (0, x1), (0, x2), (0, x3), (0, x4)] [] (wr M V) o := by
  delta b_X16_answer_42 at h
  refine S_iload dX16_answer_42 rfl ?_
  refine S_aload_n (i := 0) dX16_answer_44 rfl rfl ?_
  refine P2_gfi hM FLX16_565 rfl dX16_answer_45 ?_
  refine P_icmp_ge (tgt := 114) dX16_answer_48 rfl h (fun h => ?_) (fun h => ?_)
  · refine S_weak (ls' := [(1, 156), (0, x1), (0, x2), (0, x3), (9, 0)]) ⟨Or.inr rfl, ⟨Or.inr rfl, ⟨Or.inr rfl, ⟨Or.inr rfl, ⟨Or.inl rfl, trivial⟩⟩⟩⟩⟩ ?_
    obtain ⟨z0, h, hz⟩ := xit_some' (P := fun r => P r) h hz
    exact s_X16_answer_114 hD hM (P := fun r => P (.inr r)) r0 h hz
  · refine S_aload_n (i := 0) dX16_answer_51 rfl rfl ?_
    refine P2_gfr hM (a := 217) FLX16_198 rfl ⟨rfl, rfl⟩ dX16_answer_52 ?_
    refine S_iload dX16_answer_55 rfl ?_
    refine S_aload_n (i := 0) dX16_answer_57 rfl rfl ?_
    refine P2_gfr hM (a := 271) FLX16_361 rfl ⟨rfl, rfl⟩ dX16_answer_58 ?_
    refine S_bipush (z := 46) dX16_answer_61 rfl ?_
    refine S_iconst dX16_answer_63 rfl ?_
    refine S_iload dX16_answer_64 rfl ?_
    refine S_imul dX16_answer_66 ?_
    refine S_iadd dX16_answer_67 ?_
    refine P2_lai hM (a := 271) (n := 460) rfl dX16_answer_68 h (fun v1 h => ?_)
    refine P2_sai hM (a := 217) (n := 16) rfl dX16_answer_69 h (fun V1 h => ?_)
    refine S_aload_n (i := 0) dX16_answer_70 rfl rfl ?_
    refine P2_gfr hM (a := 218) FLX16_201 rfl ⟨rfl, rfl⟩ dX16_answer_71 ?_
    refine S_iload dX16_answer_74 rfl ?_
    refine S_aload_n (i := 0) dX16_answer_76 rfl rfl ?_
    refine P2_gfr hM (a := 271) FLX16_361 rfl ⟨rfl, rfl⟩ dX16_answer_77 ?_
    refine S_bipush (z := 47) dX16_answer_80 rfl ?_
    refine S_iconst dX16_answer_82 rfl ?_
    refine S_iload dX16_answer_83 rfl ?_
    refine S_imul dX16_answer_85 ?_
    refine S_iadd dX16_answer_86 ?_
    refine P2_lai hM (a := 271) (n := 460) rfl dX16_answer_87 h (fun v2 h => ?_)
    refine P2_sai hM (a := 218) (n := 16) rfl dX16_answer_88 h (fun V2 h => ?_)
    refine S_aload_n (i := 0) dX16_answer_89 rfl rfl ?_
    refine P2_gfr hM (a := 219) FLX16_204 rfl ⟨rfl, rfl⟩ dX16_answer_90 ?_
    refine S_iload dX16_answer_93 rfl ?_
    refine S_aload_n (i := 0) dX16_answer_95 rfl rfl ?_
    refine P2_gfr hM (a := 271) FLX16_361 rfl ⟨rfl, rfl⟩ dX16_answer_96 ?_
    refine S_bipush (z := 48) dX16_answer_99 rfl ?_
    refine S_iconst dX16_answer_101 rfl ?_
    refine S_iload dX16_answer_102 rfl ?_
    refine S_imul dX16_answer_104 ?_
    refine S_iadd dX16_answer_105 ?_
    refine P2_lai hM (a := 271) (n := 460) rfl dX16_answer_106 h (fun v3 h => ?_)
    refine P2_sai hM (a := 219) (n := 16) rfl dX16_answer_107 h (fun V3 h => ?_)
    refine S_iinc dX16_answer_108 rfl rfl rfl ?_
    change Sem g d YX16_answer 111 [(1, 156), (0, x1), (0, x2), (0, x3), (0, x4 + 1)] [] (wr M V3) o
    refine S_goto (tgt := 42) dX16_answer_111 rfl ?_
    exact c0 (x4 + 1, V3) (some_P (P := fun r => P r) h hz)
theorem sl_X16_answer_42 {g : GG} {d : Nat} (hD : 6 ≤ d) {x1 x2 x3 x4 : Int} {M : MM} (hM : LM M) {V : VV} {o : AV × MM} {P : (VV) → Prop} (r0 : ∀ r : VV, P r → o = ((9, 0), (wr M r))) {z : VV} (h : l_X16_answer_42 x1 x2 x3 x4 V = some z) (hz : P z) : Sem g d YX16_answer 42 [(1, 156), (0, x1), (0, x2), (0, x3), (0, x4)] [] (wr M V) o := by
  refine lp_sound (S := fun s : Int × VV => Sem g d YX16_answer 42 [(1, 156), (0, x1), (0, x2), (0, x3), (0, s.1)] [] (wr M s.2) o) (P := P) ?_ FU (x4, V) z h hz
  intro s x hx hP
  exact s_X16_answer_42 hD hM (P := Sum.elim (fun s : Int × VV => Sem g d YX16_answer 42 [(1, 156), (0, x1), (0, x2), (0, x3), (0, s.1)] [] (wr M s.2) o) P) (fun s h => h) (fun s h => r0 s h) hx hP
theorem s_X16_answer_22 {g : GG} {d : Nat} (hD : 6 ≤ d) {x1 x2 x3 : Int} {M : MM} (hM : LM M) {V : VV} {o : AV × MM} {P : (VV) → Prop} (r0 : ∀ r : VV, P r → o = ((9, 0), (wr M r))) {z : VV} (h : j_X16_answer_22 x1 x2 x3 V = some z) (hz : P z) : Sem g d YX16_answer 22 [(1, 156), (0, x1), (0, x2), (0, x3), (9, 0)] [] (wr M V) o := by
  delta j_X16_answer_22 at h
  refine S_iload_n (i := 3) dX16_answer_22 rfl rfl ?_
  refine S_bipush (z := 7) dX16_answer_23 rfl ?_
  refine P_icmp_ne (tgt := 128) dX16_answer_25 rfl h (fun h => ?_) (fun h => ?_)
  · exact s_X16_answer_128 hD hM r0 h hz
  · refine S_aload_n (i := 0) dX16_answer_28 rfl rfl ?_
    refine S_aload_n (i := 0) dX16_answer_29 rfl rfl ?_
    refine P2_gfr hM (a := 271) FLX16_361 rfl ⟨rfl, rfl⟩ dX16_answer_30 ?_
    refine S_bipush (z := 45) dX16_answer_33 rfl ?_
    refine P2_lai hM (a := 271) (n := 460) rfl dX16_answer_35 h (fun v1 h => ?_)
    refine P2_pfi hM FLX16_565 FPX16_565 rfl dX16_answer_36 h (fun V1 h => ?_)
    refine S_iconst dX16_answer_39 rfl ?_
    refine S_istore dX16_answer_40 (Nat.le_of_ble_eq_true rfl) rfl rfl ?_
    change Sem g d YX16_answer 42 [(1, 156), (0, x1), (0, x2), (0, x3), (0, 0)] [] (wr M V1) o
    exact sl_X16_answer_42 hD hM r0 h hz
theorem s_X16_answer_0 {g : GG} {d : Nat} (hD : 6 ≤ d) {x1 x2 : Int} {M : MM} (hM : LM M) {V : VV} {o : AV × MM} {P : (VV) → Prop} (r0 : ∀ r : VV, P r → o = ((9, 0), (wr M r))) {z : VV} (h : f_X16_answer x1 x2 V = some z) (hz : P z) : Sem g d YX16_answer 0 [(1, 156), (0, x1), (0, x2), (9, 0), (9, 0)] [] (wr M V) o := by
  delta f_X16_answer at h
  refine S_aload_n (i := 0) dX16_answer_0 rfl rfl ?_
  refine P2_gfr hM (a := 271) FLX16_361 rfl ⟨rfl, rfl⟩ dX16_answer_1 ?_
  refine S_iconst dX16_answer_4 rfl ?_
  refine P2_lai hM (a := 271) (n := 460) rfl dX16_answer_5 h (fun v1 h => ?_)
  refine S_istore_n (i := 3) dX16_answer_6 rfl (Nat.le_of_ble_eq_true rfl) rfl rfl ?_
  change Sem g d YX16_answer 7 [(1, 156), (0, x1), (0, x2), (0, v1), (9, 0)] [] (wr M V) o
  refine S_iload_n (i := 3) dX16_answer_7 rfl rfl ?_
  refine S_iconst dX16_answer_8 rfl ?_
  refine P_icmp_le (tgt := 22) dX16_answer_9 rfl h (fun h => ?_) (fun h => ?_)
  · exact s_X16_answer_22 hD hM r0 h hz
  · refine S_aload_n (i := 0) dX16_answer_12 rfl rfl ?_
    refine S_aload_n (i := 0) dX16_answer_13 rfl rfl ?_
    refine P2_gfr hM (a := 273) FLX16_367 rfl ⟨rfl, rfl⟩ dX16_answer_14 ?_
    refine S_bipush (z := 25) dX16_answer_17 rfl ?_
    refine P2_invVm hM [(1, 273), (0, 25)] [] CVX16_keyAt MLX16_765 dX16_answer_19 rfl rfl rfl rfl (by omega) h (fun r h => F_X16_keyAt (by omega) hM h) (fun V1 h => ?_)
    exact s_X16_answer_22 hD hM r0 h hz
theorem F_X16_answer {g : GG} {d : Nat} (hD : 6 ≤ d) {x1 x2 : Int} {M : MM} (hM : LM M) {V : VV} {r : VV} (h : f_X16_answer x1 x2 V = some r) : Sem g d YX16_answer 0 (ini YX16_answer [(1, 156), (0, x1), (0, x2)]) [] (wr M V) ((9, 0), (wr M r)) := by
  change Sem g d YX16_answer 0 [(1, 156), (0, x1), (0, x2), (9, 0), (9, 0)] [] (wr M V) ((9, 0), (wr M r))
  exact s_X16_answer_0 hD hM (P := fun x => x = r) (fun q e => by rw [e]) h rfl
