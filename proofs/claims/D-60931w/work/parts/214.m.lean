set_option maxRecDepth 100000
/-! PeerSearchModel.takeTold(I)V -/
theorem dX16_takeTold_0 : decode cX16_takeTold 0 = .ok (.aload_n 0, 1) := by decide +kernel
theorem dX16_takeTold_1 : decode cX16_takeTold 1 = .ok (.aload_n 0, 1) := by decide +kernel
theorem dX16_takeTold_2 : decode cX16_takeTold 2 = .ok (.getfield 361, 3) := by decide +kernel
theorem dX16_takeTold_5 : decode cX16_takeTold 5 = .ok (.iload_n 1, 1) := by decide +kernel
theorem dX16_takeTold_6 : decode cX16_takeTold 6 = .ok (.iaload, 1) := by decide +kernel
theorem dX16_takeTold_7 : decode cX16_takeTold 7 = .ok (.putfield 595, 3) := by decide +kernel
theorem dX16_takeTold_10 : decode cX16_takeTold 10 = .ok (.iconst 0, 1) := by decide +kernel
theorem dX16_takeTold_11 : decode cX16_takeTold 11 = .ok (.istore_n 2, 1) := by decide +kernel
theorem dX16_takeTold_12 : decode cX16_takeTold 12 = .ok (.iload_n 2, 1) := by decide +kernel
theorem dX16_takeTold_13 : decode cX16_takeTold 13 = .ok (.aload_n 0, 1) := by decide +kernel
theorem dX16_takeTold_14 : decode cX16_takeTold 14 = .ok (.getfield 595, 3) := by decide +kernel
theorem dX16_takeTold_17 : decode cX16_takeTold 17 = .ok (.if_icmp .ge 63, 3) := by decide +kernel
theorem dX16_takeTold_20 : decode cX16_takeTold 20 = .ok (.aload_n 0, 1) := by decide +kernel
theorem dX16_takeTold_21 : decode cX16_takeTold 21 = .ok (.getfield 210, 3) := by decide +kernel
theorem dX16_takeTold_24 : decode cX16_takeTold 24 = .ok (.iload_n 2, 1) := by decide +kernel
theorem dX16_takeTold_25 : decode cX16_takeTold 25 = .ok (.aload_n 0, 1) := by decide +kernel
theorem dX16_takeTold_26 : decode cX16_takeTold 26 = .ok (.getfield 361, 3) := by decide +kernel
theorem dX16_takeTold_29 : decode cX16_takeTold 29 = .ok (.iload_n 1, 1) := by decide +kernel
theorem dX16_takeTold_30 : decode cX16_takeTold 30 = .ok (.iconst 1, 1) := by decide +kernel
theorem dX16_takeTold_31 : decode cX16_takeTold 31 = .ok (.iadd, 1) := by decide +kernel
theorem dX16_takeTold_32 : decode cX16_takeTold 32 = .ok (.iconst 3, 1) := by decide +kernel
theorem dX16_takeTold_33 : decode cX16_takeTold 33 = .ok (.iload_n 2, 1) := by decide +kernel
theorem dX16_takeTold_34 : decode cX16_takeTold 34 = .ok (.imul, 1) := by decide +kernel
theorem dX16_takeTold_35 : decode cX16_takeTold 35 = .ok (.iadd, 1) := by decide +kernel
theorem dX16_takeTold_36 : decode cX16_takeTold 36 = .ok (.iaload, 1) := by decide +kernel
theorem dX16_takeTold_37 : decode cX16_takeTold 37 = .ok (.iastore, 1) := by decide +kernel
theorem dX16_takeTold_38 : decode cX16_takeTold 38 = .ok (.aload_n 0, 1) := by decide +kernel
theorem dX16_takeTold_39 : decode cX16_takeTold 39 = .ok (.getfield 213, 3) := by decide +kernel
theorem dX16_takeTold_42 : decode cX16_takeTold 42 = .ok (.iload_n 2, 1) := by decide +kernel
theorem dX16_takeTold_43 : decode cX16_takeTold 43 = .ok (.aload_n 0, 1) := by decide +kernel
theorem dX16_takeTold_44 : decode cX16_takeTold 44 = .ok (.getfield 361, 3) := by decide +kernel
theorem dX16_takeTold_47 : decode cX16_takeTold 47 = .ok (.iload_n 1, 1) := by decide +kernel
theorem dX16_takeTold_48 : decode cX16_takeTold 48 = .ok (.iconst 2, 1) := by decide +kernel
theorem dX16_takeTold_49 : decode cX16_takeTold 49 = .ok (.iadd, 1) := by decide +kernel
theorem dX16_takeTold_50 : decode cX16_takeTold 50 = .ok (.iconst 3, 1) := by decide +kernel
theorem dX16_takeTold_51 : decode cX16_takeTold 51 = .ok (.iload_n 2, 1) := by decide +kernel
theorem dX16_takeTold_52 : decode cX16_takeTold 52 = .ok (.imul, 1) := by decide +kernel
theorem dX16_takeTold_53 : decode cX16_takeTold 53 = .ok (.iadd, 1) := by decide +kernel
theorem dX16_takeTold_54 : decode cX16_takeTold 54 = .ok (.iaload, 1) := by decide +kernel
theorem dX16_takeTold_55 : decode cX16_takeTold 55 = .ok (.iastore, 1) := by decide +kernel
theorem dX16_takeTold_56 : decode cX16_takeTold 56 = .ok (.aload_n 0, 1) := by decide +kernel
theorem dX16_takeTold_57 : decode cX16_takeTold 57 = .ok (.getfield 216, 3) := by decide +kernel
theorem dX16_takeTold_60 : decode cX16_takeTold 60 = .ok (.iload_n 2, 1) := by decide +kernel
theorem dX16_takeTold_61 : decode cX16_takeTold 61 = .ok (.aload_n 0, 1) := by decide +kernel
theorem dX16_takeTold_62 : decode cX16_takeTold 62 = .ok (.getfield 361, 3) := by decide +kernel
theorem dX16_takeTold_65 : decode cX16_takeTold 65 = .ok (.iload_n 1, 1) := by decide +kernel
theorem dX16_takeTold_66 : decode cX16_takeTold 66 = .ok (.iconst 3, 1) := by decide +kernel
theorem dX16_takeTold_67 : decode cX16_takeTold 67 = .ok (.iadd, 1) := by decide +kernel
theorem dX16_takeTold_68 : decode cX16_takeTold 68 = .ok (.iconst 3, 1) := by decide +kernel
theorem dX16_takeTold_69 : decode cX16_takeTold 69 = .ok (.iload_n 2, 1) := by decide +kernel
theorem dX16_takeTold_70 : decode cX16_takeTold 70 = .ok (.imul, 1) := by decide +kernel
theorem dX16_takeTold_71 : decode cX16_takeTold 71 = .ok (.iadd, 1) := by decide +kernel
theorem dX16_takeTold_72 : decode cX16_takeTold 72 = .ok (.iaload, 1) := by decide +kernel
theorem dX16_takeTold_73 : decode cX16_takeTold 73 = .ok (.iastore, 1) := by decide +kernel
theorem dX16_takeTold_74 : decode cX16_takeTold 74 = .ok (.iinc 2 1, 3) := by decide +kernel
theorem dX16_takeTold_77 : decode cX16_takeTold 77 = .ok (.goto (-65), 3) := by decide +kernel
theorem dX16_takeTold_80 : decode cX16_takeTold 80 = .ok (.return_, 1) := by decide +kernel
def b_X16_takeTold_12 (x1 x2 : Int) (V : VV) : Option ((Int × VV) ⊕ (VV)) :=
  if w32 x2 < w32 (w32 (V 156 83)) then
    (l2 271 460 ((x1 + 1) + (3 * x2)) V).bind fun v1 =>
    (s2 221 30 x2 v1 V).bind fun V1 =>
    (l2 271 460 ((x1 + 2) + (3 * x2)) V1).bind fun v2 =>
    (s2 222 30 x2 v2 V1).bind fun V2 =>
    (l2 271 460 ((x1 + 3) + (3 * x2)) V2).bind fun v3 =>
    (s2 223 30 x2 v3 V2).bind fun V3 =>
    cnt (x2 + 1, V3)
  else
    xit (some V)
def l_X16_takeTold_12 (x1 x2 : Int) (V : VV) : Option (VV) := lpN (fun s : Int × VV => b_X16_takeTold_12 x1 s.1 s.2) FU (x2, V)
def f_X16_takeTold (x1 : Int) (V : VV) : Option (VV) :=
  (l2 271 460 x1 V).bind fun v1 =>
  (p2 83 v1 V).bind fun V1 =>
  l_X16_takeTold_12 x1 0 V1
theorem s_X16_takeTold_12 {g : GG} {d : Nat} (hD : 0 ≤ d) {x1 x2 : Int} {M : MM} (hM : LM M) {V : VV} {o : AV × MM} {P : ((Int × VV) ⊕ (VV)) → Prop} (c0 : ∀ s : Int × VV, P (.inl s) → Sem g d YX16_takeTold 12 [(1, 156), (0, x1), (0, s.1)] [] (wr M s.2) o) (r0 : ∀ r : VV, P (.inr r) → o = ((9, 0), (wr M r))) {z : (Int × VV) ⊕ (VV)} (h : b_X16_takeTold_12 x1 x2 V = some z) (hz : P z) : Sem g d YX16_takeTold 12 [(1, 156), (0, x1), (0, x2)] [] (wr M V) o := by
  delta b_X16_takeTold_12 at h
  refine S_iload_n (i := 2) dX16_takeTold_12 rfl rfl ?_
  refine S_aload_n (i := 0) dX16_takeTold_13 rfl rfl ?_
  refine P2_gfi hM FLX16_595 rfl dX16_takeTold_14 ?_
  refine P_icmp_ge (tgt := 80) dX16_takeTold_17 rfl h (fun h => ?_) (fun h => ?_)
  · obtain ⟨z0, h, hz⟩ := xit_some' (P := fun r => P r) h hz
    obtain rfl := r0 _ (some_P (P := fun r => P (.inr r)) h hz)
    exact S_return dX16_takeTold_80 rfl
  · refine S_aload_n (i := 0) dX16_takeTold_20 rfl rfl ?_
    refine P2_gfr hM (a := 221) FLX16_210 rfl ⟨rfl, rfl⟩ dX16_takeTold_21 ?_
    refine S_iload_n (i := 2) dX16_takeTold_24 rfl rfl ?_
    refine S_aload_n (i := 0) dX16_takeTold_25 rfl rfl ?_
    refine P2_gfr hM (a := 271) FLX16_361 rfl ⟨rfl, rfl⟩ dX16_takeTold_26 ?_
    refine S_iload_n (i := 1) dX16_takeTold_29 rfl rfl ?_
    refine S_iconst dX16_takeTold_30 rfl ?_
    refine S_iadd dX16_takeTold_31 ?_
    refine S_iconst dX16_takeTold_32 rfl ?_
    refine S_iload_n (i := 2) dX16_takeTold_33 rfl rfl ?_
    refine S_imul dX16_takeTold_34 ?_
    refine S_iadd dX16_takeTold_35 ?_
    refine P2_lai hM (a := 271) (n := 460) rfl dX16_takeTold_36 h (fun v1 h => ?_)
    refine P2_sai hM (a := 221) (n := 30) rfl dX16_takeTold_37 h (fun V1 h => ?_)
    refine S_aload_n (i := 0) dX16_takeTold_38 rfl rfl ?_
    refine P2_gfr hM (a := 222) FLX16_213 rfl ⟨rfl, rfl⟩ dX16_takeTold_39 ?_
    refine S_iload_n (i := 2) dX16_takeTold_42 rfl rfl ?_
    refine S_aload_n (i := 0) dX16_takeTold_43 rfl rfl ?_
    refine P2_gfr hM (a := 271) FLX16_361 rfl ⟨rfl, rfl⟩ dX16_takeTold_44 ?_
    refine S_iload_n (i := 1) dX16_takeTold_47 rfl rfl ?_
    refine S_iconst dX16_takeTold_48 rfl ?_
    refine S_iadd dX16_takeTold_49 ?_
    refine S_iconst dX16_takeTold_50 rfl ?_
    refine S_iload_n (i := 2) dX16_takeTold_51 rfl rfl ?_
    refine S_imul dX16_takeTold_52 ?_
    refine S_iadd dX16_takeTold_53 ?_
    refine P2_lai hM (a := 271) (n := 460) rfl dX16_takeTold_54 h (fun v2 h => ?_)
    refine P2_sai hM (a := 222) (n := 30) rfl dX16_takeTold_55 h (fun V2 h => ?_)
    refine S_aload_n (i := 0) dX16_takeTold_56 rfl rfl ?_
    refine P2_gfr hM (a := 223) FLX16_216 rfl ⟨rfl, rfl⟩ dX16_takeTold_57 ?_
    refine S_iload_n (i := 2) dX16_takeTold_60 rfl rfl ?_
    refine S_aload_n (i := 0) dX16_takeTold_61 rfl rfl ?_
    refine P2_gfr hM (a := 271) FLX16_361 rfl ⟨rfl, rfl⟩ dX16_takeTold_62 ?_
    refine S_iload_n (i := 1) dX16_takeTold_65 rfl rfl ?_
    refine S_iconst dX16_takeTold_66 rfl ?_
    refine S_iadd dX16_takeTold_67 ?_
    refine S_iconst dX16_takeTold_68 rfl ?_
    refine S_iload_n (i := 2) dX16_takeTold_69 rfl rfl ?_
    refine S_imul dX16_takeTold_70 ?_
    refine S_iadd dX16_takeTold_71 ?_
    refine P2_lai hM (a := 271) (n := 460) rfl dX16_takeTold_72 h (fun v3 h => ?_)
    refine P2_sai hM (a := 223) (n := 30) rfl dX16_takeTold_73 h (fun V3 h => ?_)
    refine S_iinc dX16_takeTold_74 rfl rfl rfl ?_
    change Sem g d YX16_takeTold 77 [(1, 156), (0, x1), (0, x2 + 1)] [] (wr M V3) o
    refine S_goto (tgt := 12) dX16_takeTold_77 rfl ?_
    exact c0 (x2 + 1, V3) (some_P (P := fun r => P r) h hz)
theorem sl_X16_takeTold_12 {g : GG} {d : Nat} (hD : 0 ≤ d) {x1 x2 : Int} {M : MM} (hM : LM M) {V : VV} {o : AV × MM} {P : (VV) → Prop} (r0 : ∀ r : VV, P r → o = ((9, 0), (wr M r))) {z : VV} (h : l_X16_takeTold_12 x1 x2 V = some z) (hz : P z) : Sem g d YX16_takeTold 12 [(1, 156), (0, x1), (0, x2)] [] (wr M V) o := by
  refine lp_sound (S := fun s : Int × VV => Sem g d YX16_takeTold 12 [(1, 156), (0, x1), (0, s.1)] [] (wr M s.2) o) (P := P) ?_ FU (x2, V) z h hz
  intro s x hx hP
  exact s_X16_takeTold_12 hD hM (P := Sum.elim (fun s : Int × VV => Sem g d YX16_takeTold 12 [(1, 156), (0, x1), (0, s.1)] [] (wr M s.2) o) P) (fun s h => h) (fun s h => r0 s h) hx hP
theorem s_X16_takeTold_0 {g : GG} {d : Nat} (hD : 0 ≤ d) {x1 : Int} {M : MM} (hM : LM M) {V : VV} {o : AV × MM} {P : (VV) → Prop} (r0 : ∀ r : VV, P r → o = ((9, 0), (wr M r))) {z : VV} (h : f_X16_takeTold x1 V = some z) (hz : P z) : Sem g d YX16_takeTold 0 [(1, 156), (0, x1), (9, 0)] [] (wr M V) o := by
  delta f_X16_takeTold at h
  refine S_aload_n (i := 0) dX16_takeTold_0 rfl rfl ?_
  refine S_aload_n (i := 0) dX16_takeTold_1 rfl rfl ?_
  refine P2_gfr hM (a := 271) FLX16_361 rfl ⟨rfl, rfl⟩ dX16_takeTold_2 ?_
  refine S_iload_n (i := 1) dX16_takeTold_5 rfl rfl ?_
  refine P2_lai hM (a := 271) (n := 460) rfl dX16_takeTold_6 h (fun v1 h => ?_)
  refine P2_pfi hM FLX16_595 FPX16_595 rfl dX16_takeTold_7 h (fun V1 h => ?_)
  refine S_iconst dX16_takeTold_10 rfl ?_
  refine S_istore_n (i := 2) dX16_takeTold_11 rfl (Nat.le_of_ble_eq_true rfl) rfl rfl ?_
  change Sem g d YX16_takeTold 12 [(1, 156), (0, x1), (0, 0)] [] (wr M V1) o
  exact sl_X16_takeTold_12 hD hM r0 h hz
theorem F_X16_takeTold {g : GG} {d : Nat} (hD : 0 ≤ d) {x1 : Int} {M : MM} (hM : LM M) {V : VV} {r : VV} (h : f_X16_takeTold x1 V = some r) : Sem g d YX16_takeTold 0 (ini YX16_takeTold [(1, 156), (0, x1)]) [] (wr M V) ((9, 0), (wr M r)) := by
  change Sem g d YX16_takeTold 0 [(1, 156), (0, x1), (9, 0)] [] (wr M V) ((9, 0), (wr M r))
  exact s_X16_takeTold_0 hD hM (P := fun x => x = r) (fun q e => by rw [e]) h rfl
/-! PeerSearchModel.answered(II)V -/
theorem dX16_answered_0 : decode cX16_answered 0 = .ok (.aload_n 0, 1) := by decide +kernel
theorem dX16_answered_1 : decode cX16_answered 1 = .ok (.getfield 237, 3) := by decide +kernel
theorem dX16_answered_4 : decode cX16_answered 4 = .ok (.iload_n 1, 1) := by decide +kernel
theorem dX16_answered_5 : decode cX16_answered 5 = .ok (.iaload, 1) := by decide +kernel
theorem dX16_answered_6 : decode cX16_answered 6 = .ok (.iconst 1, 1) := by decide +kernel
theorem dX16_answered_7 : decode cX16_answered 7 = .ok (.if_icmp .ne 157, 3) := by decide +kernel
theorem dX16_answered_10 : decode cX16_answered 10 = .ok (.aload_n 0, 1) := by decide +kernel
theorem dX16_answered_11 : decode cX16_answered 11 = .ok (.getfield 264, 3) := by decide +kernel
theorem dX16_answered_14 : decode cX16_answered 14 = .ok (.iload_n 1, 1) := by decide +kernel
theorem dX16_answered_15 : decode cX16_answered 15 = .ok (.dup2, 1) := by decide +kernel
theorem dX16_answered_16 : decode cX16_answered 16 = .ok (.iaload, 1) := by decide +kernel
theorem dX16_answered_17 : decode cX16_answered 17 = .ok (.iconst 1, 1) := by decide +kernel
theorem dX16_answered_18 : decode cX16_answered 18 = .ok (.isub, 1) := by decide +kernel
theorem dX16_answered_19 : decode cX16_answered 19 = .ok (.iastore, 1) := by decide +kernel
theorem dX16_answered_20 : decode cX16_answered 20 = .ok (.aload_n 0, 1) := by decide +kernel
theorem dX16_answered_21 : decode cX16_answered 21 = .ok (.iload_n 1, 1) := by decide +kernel
theorem dX16_answered_22 : decode cX16_answered 22 = .ok (.aload_n 0, 1) := by decide +kernel
theorem dX16_answered_23 : decode cX16_answered 23 = .ok (.getfield 146, 3) := by decide +kernel
theorem dX16_answered_26 : decode cX16_answered 26 = .ok (.iconst 5, 1) := by decide +kernel
theorem dX16_answered_27 : decode cX16_answered 27 = .ok (.iload_n 2, 1) := by decide +kernel
theorem dX16_answered_28 : decode cX16_answered 28 = .ok (.imul, 1) := by decide +kernel
theorem dX16_answered_29 : decode cX16_answered 29 = .ok (.invokevirtual 618, 3) := by decide +kernel
theorem dX16_answered_32 : decode cX16_answered 32 = .ok (.istore_n 3, 1) := by decide +kernel
theorem dX16_answered_33 : decode cX16_answered 33 = .ok (.iload_n 3, 1) := by decide +kernel
theorem dX16_answered_34 : decode cX16_answered 34 = .ok (.ifCond .lt 37, 3) := by decide +kernel
theorem dX16_answered_37 : decode cX16_answered 37 = .ok (.aload_n 0, 1) := by decide +kernel
theorem dX16_answered_38 : decode cX16_answered 38 = .ok (.getfield 258, 3) := by decide +kernel
theorem dX16_answered_41 : decode cX16_answered 41 = .ok (.iload_n 3, 1) := by decide +kernel
theorem dX16_answered_42 : decode cX16_answered 42 = .ok (.iconst 2, 1) := by decide +kernel
theorem dX16_answered_43 : decode cX16_answered 43 = .ok (.iastore, 1) := by decide +kernel
theorem dX16_answered_44 : decode cX16_answered 44 = .ok (.aload_n 0, 1) := by decide +kernel
theorem dX16_answered_45 : decode cX16_answered 45 = .ok (.getfield 261, 3) := by decide +kernel
theorem dX16_answered_48 : decode cX16_answered 48 = .ok (.iload_n 3, 1) := by decide +kernel
theorem dX16_answered_49 : decode cX16_answered 49 = .ok (.aload_n 0, 1) := by decide +kernel
theorem dX16_answered_50 : decode cX16_answered 50 = .ok (.getfield 361, 3) := by decide +kernel
theorem dX16_answered_53 : decode cX16_answered 53 = .ok (.iconst 0, 1) := by decide +kernel
theorem dX16_answered_54 : decode cX16_answered 54 = .ok (.iaload, 1) := by decide +kernel
theorem dX16_answered_55 : decode cX16_answered 55 = .ok (.bipush 6, 2) := by decide +kernel
theorem dX16_answered_57 : decode cX16_answered 57 = .ok (.if_icmp .ne 12, 3) := by decide +kernel
theorem dX16_answered_60 : decode cX16_answered 60 = .ok (.aload_n 0, 1) := by decide +kernel
theorem dX16_answered_61 : decode cX16_answered 61 = .ok (.bipush 25, 2) := by decide +kernel
theorem dX16_answered_63 : decode cX16_answered 63 = .ok (.invokevirtual 752, 3) := by decide +kernel
theorem dX16_answered_66 : decode cX16_answered 66 = .ok (.goto 4, 3) := by decide +kernel
theorem dX16_answered_69 : decode cX16_answered 69 = .ok (.iconst (-1), 1) := by decide +kernel
theorem dX16_answered_70 : decode cX16_answered 70 = .ok (.iastore, 1) := by decide +kernel
theorem dX16_answered_71 : decode cX16_answered 71 = .ok (.aload_n 0, 1) := by decide +kernel
theorem dX16_answered_72 : decode cX16_answered 72 = .ok (.getfield 361, 3) := by decide +kernel
theorem dX16_answered_75 : decode cX16_answered 75 = .ok (.iconst 0, 1) := by decide +kernel
theorem dX16_answered_76 : decode cX16_answered 76 = .ok (.iaload, 1) := by decide +kernel
theorem dX16_answered_77 : decode cX16_answered 77 = .ok (.bipush 6, 2) := by decide +kernel
theorem dX16_answered_79 : decode cX16_answered 79 = .ok (.if_icmp .ne 8, 3) := by decide +kernel
theorem dX16_answered_82 : decode cX16_answered 82 = .ok (.bipush 27, 2) := by decide +kernel
theorem dX16_answered_84 : decode cX16_answered 84 = .ok (.goto 5, 3) := by decide +kernel
theorem dX16_answered_87 : decode cX16_answered 87 = .ok (.bipush 25, 2) := by decide +kernel
theorem dX16_answered_89 : decode cX16_answered 89 = .ok (.istore 4, 2) := by decide +kernel
theorem dX16_answered_91 : decode cX16_answered 91 = .ok (.aload_n 0, 1) := by decide +kernel
theorem dX16_answered_92 : decode cX16_answered 92 = .ok (.getfield 361, 3) := by decide +kernel
theorem dX16_answered_95 : decode cX16_answered 95 = .ok (.iload 4, 2) := by decide +kernel
theorem dX16_answered_97 : decode cX16_answered 97 = .ok (.iaload, 1) := by decide +kernel
theorem dX16_answered_98 : decode cX16_answered 98 = .ok (.istore 5, 2) := by decide +kernel
theorem dX16_answered_100 : decode cX16_answered 100 = .ok (.iconst 0, 1) := by decide +kernel
theorem dX16_answered_101 : decode cX16_answered 101 = .ok (.istore 6, 2) := by decide +kernel
theorem dX16_answered_103 : decode cX16_answered 103 = .ok (.iload 6, 2) := by decide +kernel
theorem dX16_answered_105 : decode cX16_answered 105 = .ok (.iload 5, 2) := by decide +kernel
theorem dX16_answered_107 : decode cX16_answered 107 = .ok (.if_icmp .ge 54, 3) := by decide +kernel
theorem dX16_answered_110 : decode cX16_answered 110 = .ok (.aload_n 0, 1) := by decide +kernel
theorem dX16_answered_111 : decode cX16_answered 111 = .ok (.aload_n 0, 1) := by decide +kernel
theorem dX16_answered_112 : decode cX16_answered 112 = .ok (.getfield 367, 3) := by decide +kernel
theorem dX16_answered_115 : decode cX16_answered 115 = .ok (.iload 4, 2) := by decide +kernel
theorem dX16_answered_117 : decode cX16_answered 117 = .ok (.iconst 1, 1) := by decide +kernel
theorem dX16_answered_118 : decode cX16_answered 118 = .ok (.iadd, 1) := by decide +kernel
theorem dX16_answered_119 : decode cX16_answered 119 = .ok (.bipush 21, 2) := by decide +kernel
theorem dX16_answered_121 : decode cX16_answered 121 = .ok (.iload 6, 2) := by decide +kernel
theorem dX16_answered_123 : decode cX16_answered 123 = .ok (.imul, 1) := by decide +kernel
theorem dX16_answered_124 : decode cX16_answered 124 = .ok (.iadd, 1) := by decide +kernel
theorem dX16_answered_125 : decode cX16_answered 125 = .ok (.invokevirtual 765, 3) := by decide +kernel
theorem dX16_answered_128 : decode cX16_answered 128 = .ok (.aload_n 0, 1) := by decide +kernel
theorem dX16_answered_129 : decode cX16_answered 129 = .ok (.iload_n 1, 1) := by decide +kernel
theorem dX16_answered_130 : decode cX16_answered 130 = .ok (.aload_n 0, 1) := by decide +kernel
theorem dX16_answered_131 : decode cX16_answered 131 = .ok (.getfield 367, 3) := by decide +kernel
theorem dX16_answered_134 : decode cX16_answered 134 = .ok (.iconst 0, 1) := by decide +kernel
theorem dX16_answered_135 : decode cX16_answered 135 = .ok (.aload_n 0, 1) := by decide +kernel
theorem dX16_answered_136 : decode cX16_answered 136 = .ok (.getfield 361, 3) := by decide +kernel
theorem dX16_answered_139 : decode cX16_answered 139 = .ok (.iload 4, 2) := by decide +kernel
theorem dX16_answered_141 : decode cX16_answered 141 = .ok (.bipush 21, 2) := by decide +kernel
theorem dX16_answered_143 : decode cX16_answered 143 = .ok (.iadd, 1) := by decide +kernel
theorem dX16_answered_144 : decode cX16_answered 144 = .ok (.bipush 21, 2) := by decide +kernel
theorem dX16_answered_146 : decode cX16_answered 146 = .ok (.iload 6, 2) := by decide +kernel
theorem dX16_answered_148 : decode cX16_answered 148 = .ok (.imul, 1) := by decide +kernel
theorem dX16_answered_149 : decode cX16_answered 149 = .ok (.iadd, 1) := by decide +kernel
theorem dX16_answered_150 : decode cX16_answered 150 = .ok (.iaload, 1) := by decide +kernel
theorem dX16_answered_151 : decode cX16_answered 151 = .ok (.iconst 0, 1) := by decide +kernel
theorem dX16_answered_152 : decode cX16_answered 152 = .ok (.invokevirtual 621, 3) := by decide +kernel
theorem dX16_answered_155 : decode cX16_answered 155 = .ok (.iinc 6 1, 3) := by decide +kernel
theorem dX16_answered_158 : decode cX16_answered 158 = .ok (.goto (-55), 3) := by decide +kernel
theorem dX16_answered_161 : decode cX16_answered 161 = .ok (.goto 111, 3) := by decide +kernel
theorem dX16_answered_164 : decode cX16_answered 164 = .ok (.aload_n 0, 1) := by decide +kernel
theorem dX16_answered_165 : decode cX16_answered 165 = .ok (.getfield 237, 3) := by decide +kernel
theorem dX16_answered_168 : decode cX16_answered 168 = .ok (.iload_n 1, 1) := by decide +kernel
theorem dX16_answered_169 : decode cX16_answered 169 = .ok (.iaload, 1) := by decide +kernel
theorem dX16_answered_170 : decode cX16_answered 170 = .ok (.iconst 2, 1) := by decide +kernel
theorem dX16_answered_171 : decode cX16_answered 171 = .ok (.if_icmp .ne 22, 3) := by decide +kernel
theorem dX16_answered_174 : decode cX16_answered 174 = .ok (.aload_n 0, 1) := by decide +kernel
theorem dX16_answered_175 : decode cX16_answered 175 = .ok (.getfield 282, 3) := by decide +kernel
theorem dX16_answered_178 : decode cX16_answered 178 = .ok (.iload_n 1, 1) := by decide +kernel
theorem dX16_answered_179 : decode cX16_answered 179 = .ok (.dup2, 1) := by decide +kernel
theorem dX16_answered_180 : decode cX16_answered 180 = .ok (.iaload, 1) := by decide +kernel
theorem dX16_answered_181 : decode cX16_answered 181 = .ok (.iconst 1, 1) := by decide +kernel
theorem dX16_answered_182 : decode cX16_answered 182 = .ok (.isub, 1) := by decide +kernel
theorem dX16_answered_183 : decode cX16_answered 183 = .ok (.iastore, 1) := by decide +kernel
theorem dX16_answered_184 : decode cX16_answered 184 = .ok (.aload_n 0, 1) := by decide +kernel
theorem dX16_answered_185 : decode cX16_answered 185 = .ok (.iload_n 1, 1) := by decide +kernel
theorem dX16_answered_186 : decode cX16_answered 186 = .ok (.iconst 1, 1) := by decide +kernel
theorem dX16_answered_187 : decode cX16_answered 187 = .ok (.invokevirtual 682, 3) := by decide +kernel
theorem dX16_answered_190 : decode cX16_answered 190 = .ok (.goto 82, 3) := by decide +kernel
theorem dX16_answered_193 : decode cX16_answered 193 = .ok (.aload_n 0, 1) := by decide +kernel
theorem dX16_answered_194 : decode cX16_answered 194 = .ok (.getfield 237, 3) := by decide +kernel
theorem dX16_answered_197 : decode cX16_answered 197 = .ok (.iload_n 1, 1) := by decide +kernel
theorem dX16_answered_198 : decode cX16_answered 198 = .ok (.iaload, 1) := by decide +kernel
theorem dX16_answered_199 : decode cX16_answered 199 = .ok (.iconst 3, 1) := by decide +kernel
theorem dX16_answered_200 : decode cX16_answered 200 = .ok (.if_icmp .ne 17, 3) := by decide +kernel
theorem dX16_answered_203 : decode cX16_answered 203 = .ok (.aload_n 0, 1) := by decide +kernel
theorem dX16_answered_204 : decode cX16_answered 204 = .ok (.bipush 27, 2) := by decide +kernel
theorem dX16_answered_206 : decode cX16_answered 206 = .ok (.invokevirtual 786, 3) := by decide +kernel
theorem dX16_answered_209 : decode cX16_answered 209 = .ok (.aload_n 0, 1) := by decide +kernel
theorem dX16_answered_210 : decode cX16_answered 210 = .ok (.iload_n 1, 1) := by decide +kernel
theorem dX16_answered_211 : decode cX16_answered 211 = .ok (.invokevirtual 692, 3) := by decide +kernel
theorem dX16_answered_214 : decode cX16_answered 214 = .ok (.goto 58, 3) := by decide +kernel
theorem dX16_answered_217 : decode cX16_answered 217 = .ok (.aload_n 0, 1) := by decide +kernel
theorem dX16_answered_218 : decode cX16_answered 218 = .ok (.getfield 237, 3) := by decide +kernel
theorem dX16_answered_221 : decode cX16_answered 221 = .ok (.iload_n 1, 1) := by decide +kernel
theorem dX16_answered_222 : decode cX16_answered 222 = .ok (.iaload, 1) := by decide +kernel
theorem dX16_answered_223 : decode cX16_answered 223 = .ok (.iconst 4, 1) := by decide +kernel
theorem dX16_answered_224 : decode cX16_answered 224 = .ok (.if_icmp .ne 37, 3) := by decide +kernel
theorem dX16_answered_227 : decode cX16_answered 227 = .ok (.aload_n 0, 1) := by decide +kernel
theorem dX16_answered_228 : decode cX16_answered 228 = .ok (.aload_n 0, 1) := by decide +kernel
theorem dX16_answered_229 : decode cX16_answered 229 = .ok (.getfield 361, 3) := by decide +kernel
theorem dX16_answered_232 : decode cX16_answered 232 = .ok (.bipush 25, 2) := by decide +kernel
theorem dX16_answered_234 : decode cX16_answered 234 = .ok (.iaload, 1) := by decide +kernel
theorem dX16_answered_235 : decode cX16_answered 235 = .ok (.iconst 1, 1) := by decide +kernel
theorem dX16_answered_236 : decode cX16_answered 236 = .ok (.if_icmp .ne 7, 3) := by decide +kernel
theorem dX16_answered_239 : decode cX16_answered 239 = .ok (.iconst 1, 1) := by decide +kernel
theorem dX16_answered_240 : decode cX16_answered 240 = .ok (.goto 4, 3) := by decide +kernel
theorem dX16_answered_243 : decode cX16_answered 243 = .ok (.iconst 0, 1) := by decide +kernel
theorem dX16_answered_244 : decode cX16_answered 244 = .ok (.putfield 602, 3) := by decide +kernel
theorem dX16_answered_247 : decode cX16_answered 247 = .ok (.aload_n 0, 1) := by decide +kernel
theorem dX16_answered_248 : decode cX16_answered 248 = .ok (.bipush 26, 2) := by decide +kernel
theorem dX16_answered_250 : decode cX16_answered 250 = .ok (.invokevirtual 792, 3) := by decide +kernel
theorem dX16_answered_253 : decode cX16_answered 253 = .ok (.aload_n 0, 1) := by decide +kernel
theorem dX16_answered_254 : decode cX16_answered 254 = .ok (.iload_n 1, 1) := by decide +kernel
theorem dX16_answered_255 : decode cX16_answered 255 = .ok (.invokevirtual 699, 3) := by decide +kernel
theorem dX16_answered_258 : decode cX16_answered 258 = .ok (.goto 14, 3) := by decide +kernel
theorem dX16_answered_261 : decode cX16_answered 261 = .ok (.aload_n 0, 1) := by decide +kernel
theorem dX16_answered_262 : decode cX16_answered 262 = .ok (.bipush 25, 2) := by decide +kernel
theorem dX16_answered_264 : decode cX16_answered 264 = .ok (.invokevirtual 792, 3) := by decide +kernel
theorem dX16_answered_267 : decode cX16_answered 267 = .ok (.aload_n 0, 1) := by decide +kernel
theorem dX16_answered_268 : decode cX16_answered 268 = .ok (.iload_n 1, 1) := by decide +kernel
theorem dX16_answered_269 : decode cX16_answered 269 = .ok (.invokevirtual 705, 3) := by decide +kernel
theorem dX16_answered_272 : decode cX16_answered 272 = .ok (.aload_n 0, 1) := by decide +kernel
theorem dX16_answered_273 : decode cX16_answered 273 = .ok (.iload_n 1, 1) := by decide +kernel
theorem dX16_answered_274 : decode cX16_answered 274 = .ok (.invokevirtual 726, 3) := by decide +kernel
theorem dX16_answered_277 : decode cX16_answered 277 = .ok (.return_, 1) := by decide +kernel
def j_X16_answered_272 (x1 : Int) (V : VV) : Option (VV) :=
  (f_X16_proceed x1 V).bind fun V1 =>
  some V1
def j_X16_answered_244 (x1 y1 : Int) (V : VV) : Option (VV) :=
  (p2z 84 y1 V).bind fun V1 =>
  (f_X16_takeTold 26 V1).bind fun V2 =>
  (f_X16_tookMatches x1 V2).bind fun V3 =>
  j_X16_answered_272 x1 V3
def j_X16_answered_161 (x1 : Int) (V : VV) : Option (VV) :=
  j_X16_answered_272 x1 V
def b_X16_answered_103 (x1 x4 x5 x6 : Int) (V : VV) : Option ((Int × VV) ⊕ (VV)) :=
  if w32 x6 < w32 x5 then
    (f_X16_keyAt 273 ((x4 + 1) + (21 * x6)) V).bind fun V1 =>
    (l2 271 460 ((x4 + 21) + (21 * x6)) V1).bind fun v1 =>
    (f_X16_addEntry x1 273 0 v1 0 V1).bind fun V2 =>
    cnt (x6 + 1, V2)
  else
    xit (j_X16_answered_161 x1 V)
def l_X16_answered_103 (x1 x4 x5 x6 : Int) (V : VV) : Option (VV) := lpN (fun s : Int × VV => b_X16_answered_103 x1 x4 x5 s.1 s.2) FU (x6, V)
def j_X16_answered_89 (x1 y0 : Int) (V : VV) : Option (VV) :=
  (l2 271 460 y0 V).bind fun v1 =>
  l_X16_answered_103 x1 y0 v1 0 V
def j_X16_answered_71 (x1 : Int) (V : VV) : Option (VV) :=
  (l2 271 460 0 V).bind fun v1 =>
  if w32 v1 = w32 6 then
    j_X16_answered_89 x1 27 V
  else
    j_X16_answered_89 x1 25 V
def j_X16_answered_70 (x1 y1 y2 : Int) (V : VV) : Option (VV) :=
  (s2 238 2860 y1 y2 V).bind fun V1 =>
  j_X16_answered_71 x1 V1
def f_X16_answered (x1 x2 : Int) (V : VV) : Option (VV) :=
  (l2 230 44 x1 V).bind fun v1 =>
  if w32 v1 = w32 1 then
    (l2 239 44 x1 V).bind fun v7 =>
    (s2 239 44 x1 (v7 - 1) V).bind fun V7 =>
    (f_X16_entryWith x1 200 (5 * x2) V7).bind fun v8 =>
    if w32 v8 < 0 then
      j_X16_answered_71 x1 V7
    else
      (s2 237 2860 v8 2 V7).bind fun V8 =>
      (l2 271 460 0 V8).bind fun v9 =>
      if w32 v9 = w32 6 then
        (f_X16_pairAt 25 V8).bind fun v10 =>
        j_X16_answered_70 x1 v8 v10 V8
      else
        j_X16_answered_70 x1 v8 (-1) V8
  else
    (l2 230 44 x1 V).bind fun v2 =>
    if w32 v2 = w32 2 then
      (l2 245 44 x1 V).bind fun v6 =>
      (s2 245 44 x1 (v6 - 1) V).bind fun V5 =>
      (f_X16_stored x1 1 V5).bind fun V6 =>
      j_X16_answered_272 x1 V6
    else
      (l2 230 44 x1 V).bind fun v3 =>
      if w32 v3 = w32 3 then
        (f_X16_takeFilter 27 V).bind fun V3 =>
        (f_X16_tookBits x1 V3).bind fun V4 =>
        j_X16_answered_272 x1 V4
      else
        (l2 230 44 x1 V).bind fun v4 =>
        if w32 v4 = w32 4 then
          (l2 271 460 25 V).bind fun v5 =>
          if w32 v5 = w32 1 then
            j_X16_answered_244 x1 1 V
          else
            j_X16_answered_244 x1 0 V
        else
          (f_X16_takeTold 25 V).bind fun V1 =>
          (f_X16_tookChecked x1 V1).bind fun V2 =>
          j_X16_answered_272 x1 V2
theorem s_X16_answered_272 {g : GG} {d : Nat} (hD : 9 ≤ d) {x1 : Int} {M : MM} (hM : LM M) {V : VV} {o : AV × MM} {P : (VV) → Prop} (r0 : ∀ r : VV, P r → o = ((9, 0), (wr M r))) {z : VV} (h : j_X16_answered_272 x1 V = some z) (hz : P z) : Sem g d YX16_answered 272 [(1, 156), (0, x1), (9, 0), (9, 0), (9, 0), (9, 0), (9, 0)] [] (wr M V) o := by
  delta j_X16_answered_272 at h
  refine S_aload_n (i := 0) dX16_answered_272 rfl rfl ?_
  refine S_iload_n (i := 1) dX16_answered_273 rfl rfl ?_
  refine P2_invVm hM [(0, x1)] [] CVX16_proceed MLX16_726 dX16_answered_274 rfl rfl rfl rfl (by omega) h (fun r h => F_X16_proceed (by omega) hM h) (fun V1 h => ?_)
  obtain rfl := r0 _ (some_P (P := fun r => P r) h hz)
  exact S_return dX16_answered_277 rfl
theorem s_X16_answered_244 {g : GG} {d : Nat} (hD : 9 ≤ d) {x1 y1 : Int} {M : MM} (hM : LM M) {V : VV} {o : AV × MM} {P : (VV) → Prop} (r0 : ∀ r : VV, P r → o = ((9, 0), (wr M r))) {z : VV} (h : j_X16_answered_244 x1 y1 V = some z) (hz : P z) : Sem g d YX16_answered 244 [(1, 156), (0, x1), (9, 0), (9, 0), (9, 0), (9, 0), (9, 0)] [(0, y1), (1, 156)] (wr M V) o := by
  delta j_X16_answered_244 at h
  refine P2_pfz hM FLX16_602 FPX16_602 rfl dX16_answered_244 h (fun V1 h => ?_)
  refine S_aload_n (i := 0) dX16_answered_247 rfl rfl ?_
  refine S_bipush (z := 26) dX16_answered_248 rfl ?_
  refine P2_invVm hM [(0, 26)] [] CVX16_takeTold MLX16_792 dX16_answered_250 rfl rfl rfl rfl (by omega) h (fun r h => F_X16_takeTold (by omega) hM h) (fun V2 h => ?_)
  refine S_aload_n (i := 0) dX16_answered_253 rfl rfl ?_
  refine S_iload_n (i := 1) dX16_answered_254 rfl rfl ?_
  refine P2_invVm hM [(0, x1)] [] CVX16_tookMatches MLX16_699 dX16_answered_255 rfl rfl rfl rfl (by omega) h (fun r h => F_X16_tookMatches (by omega) hM h) (fun V3 h => ?_)
  refine S_goto (tgt := 272) dX16_answered_258 rfl ?_
  exact s_X16_answered_272 hD hM r0 h hz
theorem s_X16_answered_161 {g : GG} {d : Nat} (hD : 9 ≤ d) {x1 : Int} {M : MM} (hM : LM M) {V : VV} {o : AV × MM} {P : (VV) → Prop} (r0 : ∀ r : VV, P r → o = ((9, 0), (wr M r))) {z : VV} (h : j_X16_answered_161 x1 V = some z) (hz : P z) : Sem g d YX16_answered 161 [(1, 156), (0, x1), (9, 0), (9, 0), (9, 0), (9, 0), (9, 0)] [] (wr M V) o := by
  delta j_X16_answered_161 at h
  refine S_goto (tgt := 272) dX16_answered_161 rfl ?_
  exact s_X16_answered_272 hD hM r0 h hz
theorem s_X16_answered_103 {g : GG} {d : Nat} (hD : 9 ≤ d) {x1 x4 x5 x6 : Int} {M : MM} (hM : LM M) {V : VV} {o : AV × MM} {P : ((Int × VV) ⊕ (VV)) → Prop} (c0 : ∀ s : Int × VV, P (.inl s) → Sem g d YX16_answered 103 [(1, 156), (0, x1), (9, 0), (9, 0), (0, x4), (0, x5), (0, s.1)] [] (wr M s.2) o) (r0 : ∀ r : VV, P (.inr r) → o = ((9, 0), (wr M r))) {z : (Int × VV) ⊕ (VV)} (h : b_X16_answered_103 x1 x4 x5 x6 V = some z) (hz : P z) : Sem g d YX16_answered 103 [(1, 156), (0, x1), (9, 0), (9, 0), (0, x4), (0, x5), (0, x6)] [] (wr M V) o := by
  delta b_X16_answered_103 at h
  refine S_iload dX16_answered_103 rfl ?_
  refine S_iload dX16_answered_105 rfl ?_
  refine P_icmp_ge (tgt := 161) dX16_answered_107 rfl h (fun h => ?_) (fun h => ?_)
  · refine S_weak (ls' := [(1, 156), (0, x1), (9, 0), (9, 0), (9, 0), (9, 0), (9, 0)]) ⟨Or.inr rfl, ⟨Or.inr rfl, ⟨Or.inl rfl, ⟨Or.inl rfl, ⟨Or.inl rfl, ⟨Or.inl rfl, ⟨Or.inl rfl, trivial⟩⟩⟩⟩⟩⟩⟩ ?_
    obtain ⟨z0, h, hz⟩ := xit_some' (P := fun r => P r) h hz
    exact s_X16_answered_161 hD hM (P := fun r => P (.inr r)) r0 h hz
  · refine S_aload_n (i := 0) dX16_answered_110 rfl rfl ?_
    refine S_aload_n (i := 0) dX16_answered_111 rfl rfl ?_
    refine P2_gfr hM (a := 273) FLX16_367 rfl ⟨rfl, rfl⟩ dX16_answered_112 ?_
    refine S_iload dX16_answered_115 rfl ?_
    refine S_iconst dX16_answered_117 rfl ?_
    refine S_iadd dX16_answered_118 ?_
    refine S_bipush (z := 21) dX16_answered_119 rfl ?_
    refine S_iload dX16_answered_121 rfl ?_
    refine S_imul dX16_answered_123 ?_
    refine S_iadd dX16_answered_124 ?_
    refine P2_invVm hM [(1, 273), (0, (x4 + 1) + (21 * x6))] [] CVX16_keyAt MLX16_765 dX16_answered_125 rfl rfl rfl rfl (by omega) h (fun r h => F_X16_keyAt (by omega) hM h) (fun V1 h => ?_)
    refine S_aload_n (i := 0) dX16_answered_128 rfl rfl ?_
    refine S_iload_n (i := 1) dX16_answered_129 rfl rfl ?_
    refine S_aload_n (i := 0) dX16_answered_130 rfl rfl ?_
    refine P2_gfr hM (a := 273) FLX16_367 rfl ⟨rfl, rfl⟩ dX16_answered_131 ?_
    refine S_iconst dX16_answered_134 rfl ?_
    refine S_aload_n (i := 0) dX16_answered_135 rfl rfl ?_
    refine P2_gfr hM (a := 271) FLX16_361 rfl ⟨rfl, rfl⟩ dX16_answered_136 ?_
    refine S_iload dX16_answered_139 rfl ?_
    refine S_bipush (z := 21) dX16_answered_141 rfl ?_
    refine S_iadd dX16_answered_143 ?_
    refine S_bipush (z := 21) dX16_answered_144 rfl ?_
    refine S_iload dX16_answered_146 rfl ?_
    refine S_imul dX16_answered_148 ?_
    refine S_iadd dX16_answered_149 ?_
    refine P2_lai hM (a := 271) (n := 460) rfl dX16_answered_150 h (fun v1 h => ?_)
    refine S_iconst dX16_answered_151 rfl ?_
    refine P2_invVm hM [(0, x1), (1, 273), (0, 0), (0, v1), (0, 0)] [] CVX16_addEntry MLX16_621 dX16_answered_152 rfl rfl rfl rfl (by omega) h (fun r h => F_X16_addEntry (by omega) hM h) (fun V2 h => ?_)
    refine S_iinc dX16_answered_155 rfl rfl rfl ?_
    change Sem g d YX16_answered 158 [(1, 156), (0, x1), (9, 0), (9, 0), (0, x4), (0, x5), (0, x6 + 1)] [] (wr M V2) o
    refine S_goto (tgt := 103) dX16_answered_158 rfl ?_
    exact c0 (x6 + 1, V2) (some_P (P := fun r => P r) h hz)
theorem sl_X16_answered_103 {g : GG} {d : Nat} (hD : 9 ≤ d) {x1 x4 x5 x6 : Int} {M : MM} (hM : LM M) {V : VV} {o : AV × MM} {P : (VV) → Prop} (r0 : ∀ r : VV, P r → o = ((9, 0), (wr M r))) {z : VV} (h : l_X16_answered_103 x1 x4 x5 x6 V = some z) (hz : P z) : Sem g d YX16_answered 103 [(1, 156), (0, x1), (9, 0), (9, 0), (0, x4), (0, x5), (0, x6)] [] (wr M V) o := by
  refine lp_sound (S := fun s : Int × VV => Sem g d YX16_answered 103 [(1, 156), (0, x1), (9, 0), (9, 0), (0, x4), (0, x5), (0, s.1)] [] (wr M s.2) o) (P := P) ?_ FU (x6, V) z h hz
  intro s x hx hP
  exact s_X16_answered_103 hD hM (P := Sum.elim (fun s : Int × VV => Sem g d YX16_answered 103 [(1, 156), (0, x1), (9, 0), (9, 0), (0, x4), (0, x5), (0, s.1)] [] (wr M s.2) o) P) (fun s h => h) (fun s h => r0 s h) hx hP
theorem s_X16_answered_89 {g : GG} {d : Nat} (hD : 9 ≤ d) {x1 y0 : Int} {M : MM} (hM : LM M) {V : VV} {o : AV × MM} {P : (VV) → Prop} (r0 : ∀ r : VV, P r → o = ((9, 0), (wr M r))) {z : VV} (h : j_X16_answered_89 x1 y0 V = some z) (hz : P z) : Sem g d YX16_answered 89 [(1, 156), (0, x1), (9, 0), (9, 0), (9, 0), (9, 0), (9, 0)] [(0, y0)] (wr M V) o := by
  delta j_X16_answered_89 at h
  refine S_istore dX16_answered_89 (Nat.le_of_ble_eq_true rfl) rfl rfl ?_
  change Sem g d YX16_answered 91 [(1, 156), (0, x1), (9, 0), (9, 0), (0, y0), (9, 0), (9, 0)] [] (wr M V) o
  refine S_aload_n (i := 0) dX16_answered_91 rfl rfl ?_
  refine P2_gfr hM (a := 271) FLX16_361 rfl ⟨rfl, rfl⟩ dX16_answered_92 ?_
  refine S_iload dX16_answered_95 rfl ?_
  refine P2_lai hM (a := 271) (n := 460) rfl dX16_answered_97 h (fun v1 h => ?_)
  refine S_istore dX16_answered_98 (Nat.le_of_ble_eq_true rfl) rfl rfl ?_
  change Sem g d YX16_answered 100 [(1, 156), (0, x1), (9, 0), (9, 0), (0, y0), (0, v1), (9, 0)] [] (wr M V) o
  refine S_iconst dX16_answered_100 rfl ?_
  refine S_istore dX16_answered_101 (Nat.le_of_ble_eq_true rfl) rfl rfl ?_
  change Sem g d YX16_answered 103 [(1, 156), (0, x1), (9, 0), (9, 0), (0, y0), (0, v1), (0, 0)] [] (wr M V) o
  exact sl_X16_answered_103 hD hM r0 h hz
theorem s_X16_answered_71 {g : GG} {d : Nat} (hD : 9 ≤ d) {x1 : Int} {M : MM} (hM : LM M) {V : VV} {o : AV × MM} {P : (VV) → Prop} (r0 : ∀ r : VV, P r → o = ((9, 0), (wr M r))) {z : VV} (h : j_X16_answered_71 x1 V = some z) (hz : P z) : Sem g d YX16_answered 71 [(1, 156), (0, x1), (9, 0), (9, 0), (9, 0), (9, 0), (9, 0)] [] (wr M V) o := by
  delta j_X16_answered_71 at h
  refine S_aload_n (i := 0) dX16_answered_71 rfl rfl ?_
  refine P2_gfr hM (a := 271) FLX16_361 rfl ⟨rfl, rfl⟩ dX16_answered_72 ?_
  refine S_iconst dX16_answered_75 rfl ?_
  refine P2_lai hM (a := 271) (n := 460) rfl dX16_answered_76 h (fun v1 h => ?_)
  refine S_bipush (z := 6) dX16_answered_77 rfl ?_
  refine P_icmp_ne (tgt := 87) dX16_answered_79 rfl h (fun h => ?_) (fun h => ?_)
  · refine S_bipush (z := 25) dX16_answered_87 rfl ?_
    exact s_X16_answered_89 hD hM r0 h hz
  · refine S_bipush (z := 27) dX16_answered_82 rfl ?_
    refine S_goto (tgt := 89) dX16_answered_84 rfl ?_
    exact s_X16_answered_89 hD hM r0 h hz
theorem s_X16_answered_70 {g : GG} {d : Nat} (hD : 9 ≤ d) {x1 y1 y2 : Int} {M : MM} (hM : LM M) {V : VV} {o : AV × MM} {P : (VV) → Prop} (r0 : ∀ r : VV, P r → o = ((9, 0), (wr M r))) {z : VV} (h : j_X16_answered_70 x1 y1 y2 V = some z) (hz : P z) : Sem g d YX16_answered 70 [(1, 156), (0, x1), (9, 0), (9, 0), (9, 0), (9, 0), (9, 0)] [(0, y2), (0, y1), (1, 238)] (wr M V) o := by
  delta j_X16_answered_70 at h
  refine P2_sai hM (a := 238) (n := 2860) rfl dX16_answered_70 h (fun V1 h => ?_)
  exact s_X16_answered_71 hD hM r0 h hz
theorem s_X16_answered_0 {g : GG} {d : Nat} (hD : 9 ≤ d) {x1 x2 : Int} {M : MM} (hM : LM M) {V : VV} {o : AV × MM} {P : (VV) → Prop} (r0 : ∀ r : VV, P r → o = ((9, 0), (wr M r))) {z : VV} (h : f_X16_answered x1 x2 V = some z) (hz : P z) : Sem g d YX16_answered 0 [(1, 156), (0, x1), (0, x2), (9, 0), (9, 0), (9, 0), (9, 0)] [] (wr M V) o := by
  delta f_X16_answered at h
  refine S_aload_n (i := 0) dX16_answered_0 rfl rfl ?_
  refine P2_gfr hM (a := 230) FLX16_237 rfl ⟨rfl, rfl⟩ dX16_answered_1 ?_
  refine S_iload_n (i := 1) dX16_answered_4 rfl rfl ?_
  refine P2_lai hM (a := 230) (n := 44) rfl dX16_answered_5 h (fun v1 h => ?_)
  refine S_iconst dX16_answered_6 rfl ?_
  refine P_icmp_ne (tgt := 164) dX16_answered_7 rfl h (fun h => ?_) (fun h => ?_)
  · refine S_aload_n (i := 0) dX16_answered_164 rfl rfl ?_
    refine P2_gfr hM (a := 230) FLX16_237 rfl ⟨rfl, rfl⟩ dX16_answered_165 ?_
    refine S_iload_n (i := 1) dX16_answered_168 rfl rfl ?_
    refine P2_lai hM (a := 230) (n := 44) rfl dX16_answered_169 h (fun v2 h => ?_)
    refine S_iconst dX16_answered_170 rfl ?_
    refine P_icmp_ne (tgt := 193) dX16_answered_171 rfl h (fun h => ?_) (fun h => ?_)
    · refine S_aload_n (i := 0) dX16_answered_193 rfl rfl ?_
      refine P2_gfr hM (a := 230) FLX16_237 rfl ⟨rfl, rfl⟩ dX16_answered_194 ?_
      refine S_iload_n (i := 1) dX16_answered_197 rfl rfl ?_
      refine P2_lai hM (a := 230) (n := 44) rfl dX16_answered_198 h (fun v3 h => ?_)
      refine S_iconst dX16_answered_199 rfl ?_
      refine P_icmp_ne (tgt := 217) dX16_answered_200 rfl h (fun h => ?_) (fun h => ?_)
      · refine S_aload_n (i := 0) dX16_answered_217 rfl rfl ?_
        refine P2_gfr hM (a := 230) FLX16_237 rfl ⟨rfl, rfl⟩ dX16_answered_218 ?_
        refine S_iload_n (i := 1) dX16_answered_221 rfl rfl ?_
        refine P2_lai hM (a := 230) (n := 44) rfl dX16_answered_222 h (fun v4 h => ?_)
        refine S_iconst dX16_answered_223 rfl ?_
        refine P_icmp_ne (tgt := 261) dX16_answered_224 rfl h (fun h => ?_) (fun h => ?_)
        · refine S_aload_n (i := 0) dX16_answered_261 rfl rfl ?_
          refine S_bipush (z := 25) dX16_answered_262 rfl ?_
          refine P2_invVm hM [(0, 25)] [] CVX16_takeTold MLX16_792 dX16_answered_264 rfl rfl rfl rfl (by omega) h (fun r h => F_X16_takeTold (by omega) hM h) (fun V1 h => ?_)
          refine S_aload_n (i := 0) dX16_answered_267 rfl rfl ?_
          refine S_iload_n (i := 1) dX16_answered_268 rfl rfl ?_
          refine P2_invVm hM [(0, x1)] [] CVX16_tookChecked MLX16_705 dX16_answered_269 rfl rfl rfl rfl (by omega) h (fun r h => F_X16_tookChecked (by omega) hM h) (fun V2 h => ?_)
          refine S_weak (ls' := [(1, 156), (0, x1), (9, 0), (9, 0), (9, 0), (9, 0), (9, 0)]) ⟨Or.inr rfl, ⟨Or.inr rfl, ⟨Or.inl rfl, ⟨Or.inl rfl, ⟨Or.inl rfl, ⟨Or.inl rfl, ⟨Or.inl rfl, trivial⟩⟩⟩⟩⟩⟩⟩ ?_
          exact s_X16_answered_272 hD hM r0 h hz
        · refine S_aload_n (i := 0) dX16_answered_227 rfl rfl ?_
          refine S_aload_n (i := 0) dX16_answered_228 rfl rfl ?_
          refine P2_gfr hM (a := 271) FLX16_361 rfl ⟨rfl, rfl⟩ dX16_answered_229 ?_
          refine S_bipush (z := 25) dX16_answered_232 rfl ?_
          refine P2_lai hM (a := 271) (n := 460) rfl dX16_answered_234 h (fun v5 h => ?_)
          refine S_iconst dX16_answered_235 rfl ?_
          refine P_icmp_ne (tgt := 243) dX16_answered_236 rfl h (fun h => ?_) (fun h => ?_)
          · refine S_iconst dX16_answered_243 rfl ?_
            refine S_weak (ls' := [(1, 156), (0, x1), (9, 0), (9, 0), (9, 0), (9, 0), (9, 0)]) ⟨Or.inr rfl, ⟨Or.inr rfl, ⟨Or.inl rfl, ⟨Or.inl rfl, ⟨Or.inl rfl, ⟨Or.inl rfl, ⟨Or.inl rfl, trivial⟩⟩⟩⟩⟩⟩⟩ ?_
            exact s_X16_answered_244 hD hM r0 h hz
          · refine S_iconst dX16_answered_239 rfl ?_
            refine S_goto (tgt := 244) dX16_answered_240 rfl ?_
            refine S_weak (ls' := [(1, 156), (0, x1), (9, 0), (9, 0), (9, 0), (9, 0), (9, 0)]) ⟨Or.inr rfl, ⟨Or.inr rfl, ⟨Or.inl rfl, ⟨Or.inl rfl, ⟨Or.inl rfl, ⟨Or.inl rfl, ⟨Or.inl rfl, trivial⟩⟩⟩⟩⟩⟩⟩ ?_
            exact s_X16_answered_244 hD hM r0 h hz
      · refine S_aload_n (i := 0) dX16_answered_203 rfl rfl ?_
        refine S_bipush (z := 27) dX16_answered_204 rfl ?_
        refine P2_invVm hM [(0, 27)] [] CVX16_takeFilter MLX16_786 dX16_answered_206 rfl rfl rfl rfl (by omega) h (fun r h => F_X16_takeFilter (by omega) hM h) (fun V3 h => ?_)
        refine S_aload_n (i := 0) dX16_answered_209 rfl rfl ?_
        refine S_iload_n (i := 1) dX16_answered_210 rfl rfl ?_
        refine P2_invVm hM [(0, x1)] [] CVX16_tookBits MLX16_692 dX16_answered_211 rfl rfl rfl rfl (by omega) h (fun r h => F_X16_tookBits (by omega) hM h) (fun V4 h => ?_)
        refine S_goto (tgt := 272) dX16_answered_214 rfl ?_
        refine S_weak (ls' := [(1, 156), (0, x1), (9, 0), (9, 0), (9, 0), (9, 0), (9, 0)]) ⟨Or.inr rfl, ⟨Or.inr rfl, ⟨Or.inl rfl, ⟨Or.inl rfl, ⟨Or.inl rfl, ⟨Or.inl rfl, ⟨Or.inl rfl, trivial⟩⟩⟩⟩⟩⟩⟩ ?_
        exact s_X16_answered_272 hD hM r0 h hz
    · refine S_aload_n (i := 0) dX16_answered_174 rfl rfl ?_
      refine P2_gfr hM (a := 245) FLX16_282 rfl ⟨rfl, rfl⟩ dX16_answered_175 ?_
      refine S_iload_n (i := 1) dX16_answered_178 rfl rfl ?_
      refine S_dup2 dX16_answered_179 (Nat.le_of_ble_eq_true rfl) (Nat.le_of_ble_eq_true rfl) ?_
      refine P2_lai hM (a := 245) (n := 44) rfl dX16_answered_180 h (fun v6 h => ?_)
      refine S_iconst dX16_answered_181 rfl ?_
      refine S_isub dX16_answered_182 ?_
      refine P2_sai hM (a := 245) (n := 44) rfl dX16_answered_183 h (fun V5 h => ?_)
      refine S_aload_n (i := 0) dX16_answered_184 rfl rfl ?_
      refine S_iload_n (i := 1) dX16_answered_185 rfl rfl ?_
      refine S_iconst dX16_answered_186 rfl ?_
      refine P2_invVm hM [(0, x1), (0, 1)] [] CVX16_stored MLX16_682 dX16_answered_187 rfl rfl rfl rfl (by omega) h (fun r h => F_X16_stored (by omega) hM h) (fun V6 h => ?_)
      refine S_goto (tgt := 272) dX16_answered_190 rfl ?_
      refine S_weak (ls' := [(1, 156), (0, x1), (9, 0), (9, 0), (9, 0), (9, 0), (9, 0)]) ⟨Or.inr rfl, ⟨Or.inr rfl, ⟨Or.inl rfl, ⟨Or.inl rfl, ⟨Or.inl rfl, ⟨Or.inl rfl, ⟨Or.inl rfl, trivial⟩⟩⟩⟩⟩⟩⟩ ?_
      exact s_X16_answered_272 hD hM r0 h hz
  · refine S_aload_n (i := 0) dX16_answered_10 rfl rfl ?_
    refine P2_gfr hM (a := 239) FLX16_264 rfl ⟨rfl, rfl⟩ dX16_answered_11 ?_
    refine S_iload_n (i := 1) dX16_answered_14 rfl rfl ?_
    refine S_dup2 dX16_answered_15 (Nat.le_of_ble_eq_true rfl) (Nat.le_of_ble_eq_true rfl) ?_
    refine P2_lai hM (a := 239) (n := 44) rfl dX16_answered_16 h (fun v7 h => ?_)
    refine S_iconst dX16_answered_17 rfl ?_
    refine S_isub dX16_answered_18 ?_
    refine P2_sai hM (a := 239) (n := 44) rfl dX16_answered_19 h (fun V7 h => ?_)
    refine S_aload_n (i := 0) dX16_answered_20 rfl rfl ?_
    refine S_iload_n (i := 1) dX16_answered_21 rfl rfl ?_
    refine S_aload_n (i := 0) dX16_answered_22 rfl rfl ?_
    refine P2_gfr hM (a := 200) FLX16_146 rfl ⟨rfl, rfl⟩ dX16_answered_23 ?_
    refine S_iconst dX16_answered_26 rfl ?_
    refine S_iload_n (i := 2) dX16_answered_27 rfl rfl ?_
    refine S_imul dX16_answered_28 ?_
    refine P2_invVp hM 0 [(0, x1), (1, 200), (0, 5 * x2)] [] CVX16_entryWith MLX16_618 dX16_answered_29 rfl rfl rfl rfl rfl (by omega) h (fun r h => F_X16_entryWith (by omega) hM h) (fun v8 h => ?_)
    refine S_istore_n (i := 3) dX16_answered_32 rfl (Nat.le_of_ble_eq_true rfl) rfl rfl ?_
    change Sem g d YX16_answered 33 [(1, 156), (0, x1), (0, x2), (0, v8), (9, 0), (9, 0), (9, 0)] [] (wr M V7) o
    refine S_iload_n (i := 3) dX16_answered_33 rfl rfl ?_
    refine P_if_lt (tgt := 71) dX16_answered_34 rfl h (fun h => ?_) (fun h => ?_)
    · refine S_weak (ls' := [(1, 156), (0, x1), (9, 0), (9, 0), (9, 0), (9, 0), (9, 0)]) ⟨Or.inr rfl, ⟨Or.inr rfl, ⟨Or.inl rfl, ⟨Or.inl rfl, ⟨Or.inl rfl, ⟨Or.inl rfl, ⟨Or.inl rfl, trivial⟩⟩⟩⟩⟩⟩⟩ ?_
      exact s_X16_answered_71 hD hM r0 h hz
    · refine S_aload_n (i := 0) dX16_answered_37 rfl rfl ?_
      refine P2_gfr hM (a := 237) FLX16_258 rfl ⟨rfl, rfl⟩ dX16_answered_38 ?_
      refine S_iload_n (i := 3) dX16_answered_41 rfl rfl ?_
      refine S_iconst dX16_answered_42 rfl ?_
      refine P2_sai hM (a := 237) (n := 2860) rfl dX16_answered_43 h (fun V8 h => ?_)
      refine S_aload_n (i := 0) dX16_answered_44 rfl rfl ?_
      refine P2_gfr hM (a := 238) FLX16_261 rfl ⟨rfl, rfl⟩ dX16_answered_45 ?_
      refine S_iload_n (i := 3) dX16_answered_48 rfl rfl ?_
      refine S_aload_n (i := 0) dX16_answered_49 rfl rfl ?_
      refine P2_gfr hM (a := 271) FLX16_361 rfl ⟨rfl, rfl⟩ dX16_answered_50 ?_
      refine S_iconst dX16_answered_53 rfl ?_
      refine P2_lai hM (a := 271) (n := 460) rfl dX16_answered_54 h (fun v9 h => ?_)
      refine S_bipush (z := 6) dX16_answered_55 rfl ?_
      refine P_icmp_ne (tgt := 69) dX16_answered_57 rfl h (fun h => ?_) (fun h => ?_)
      · refine S_iconst dX16_answered_69 rfl ?_
        refine S_weak (ls' := [(1, 156), (0, x1), (9, 0), (9, 0), (9, 0), (9, 0), (9, 0)]) ⟨Or.inr rfl, ⟨Or.inr rfl, ⟨Or.inl rfl, ⟨Or.inl rfl, ⟨Or.inl rfl, ⟨Or.inl rfl, ⟨Or.inl rfl, trivial⟩⟩⟩⟩⟩⟩⟩ ?_
        exact s_X16_answered_70 hD hM r0 h hz
      · refine S_aload_n (i := 0) dX16_answered_60 rfl rfl ?_
        refine S_bipush (z := 25) dX16_answered_61 rfl ?_
        refine P2_invVp hM 0 [(0, 25)] [(0, v8), (1, 238)] CVX16_pairAt MLX16_752 dX16_answered_63 rfl rfl rfl rfl rfl (by omega) h (fun r h => F_X16_pairAt (by omega) hM h) (fun v10 h => ?_)
        refine S_goto (tgt := 70) dX16_answered_66 rfl ?_
        refine S_weak (ls' := [(1, 156), (0, x1), (9, 0), (9, 0), (9, 0), (9, 0), (9, 0)]) ⟨Or.inr rfl, ⟨Or.inr rfl, ⟨Or.inl rfl, ⟨Or.inl rfl, ⟨Or.inl rfl, ⟨Or.inl rfl, ⟨Or.inl rfl, trivial⟩⟩⟩⟩⟩⟩⟩ ?_
        exact s_X16_answered_70 hD hM r0 h hz
theorem F_X16_answered {g : GG} {d : Nat} (hD : 9 ≤ d) {x1 x2 : Int} {M : MM} (hM : LM M) {V : VV} {r : VV} (h : f_X16_answered x1 x2 V = some r) : Sem g d YX16_answered 0 (ini YX16_answered [(1, 156), (0, x1), (0, x2)]) [] (wr M V) ((9, 0), (wr M r)) := by
  change Sem g d YX16_answered 0 [(1, 156), (0, x1), (0, x2), (9, 0), (9, 0), (9, 0), (9, 0)] [] (wr M V) ((9, 0), (wr M r))
  exact s_X16_answered_0 hD hM (P := fun x => x = r) (fun q e => by rw [e]) h rfl
/-! PeerSearchModel.awaited(II)I -/
theorem dX16_awaited_0 : decode cX16_awaited 0 = .ok (.bipush 40, 2) := by decide +kernel
theorem dX16_awaited_2 : decode cX16_awaited 2 = .ok (.iload_n 1, 1) := by decide +kernel
theorem dX16_awaited_3 : decode cX16_awaited 3 = .ok (.imul, 1) := by decide +kernel
theorem dX16_awaited_4 : decode cX16_awaited 4 = .ok (.istore_n 3, 1) := by decide +kernel
theorem dX16_awaited_5 : decode cX16_awaited 5 = .ok (.iload_n 3, 1) := by decide +kernel
theorem dX16_awaited_6 : decode cX16_awaited 6 = .ok (.bipush 40, 2) := by decide +kernel
theorem dX16_awaited_8 : decode cX16_awaited 8 = .ok (.iload_n 1, 1) := by decide +kernel
theorem dX16_awaited_9 : decode cX16_awaited 9 = .ok (.imul, 1) := by decide +kernel
theorem dX16_awaited_10 : decode cX16_awaited 10 = .ok (.bipush 40, 2) := by decide +kernel
theorem dX16_awaited_12 : decode cX16_awaited 12 = .ok (.iadd, 1) := by decide +kernel
theorem dX16_awaited_13 : decode cX16_awaited 13 = .ok (.if_icmp .ge 78, 3) := by decide +kernel
theorem dX16_awaited_16 : decode cX16_awaited 16 = .ok (.aload_n 0, 1) := by decide +kernel
theorem dX16_awaited_17 : decode cX16_awaited 17 = .ok (.getfield 137, 3) := by decide +kernel
theorem dX16_awaited_20 : decode cX16_awaited 20 = .ok (.iload_n 3, 1) := by decide +kernel
theorem dX16_awaited_21 : decode cX16_awaited 21 = .ok (.baload, 1) := by decide +kernel
theorem dX16_awaited_22 : decode cX16_awaited 22 = .ok (.ifCond .eq 63, 3) := by decide +kernel
theorem dX16_awaited_25 : decode cX16_awaited 25 = .ok (.aload_n 0, 1) := by decide +kernel
theorem dX16_awaited_26 : decode cX16_awaited 26 = .ok (.getfield 140, 3) := by decide +kernel
theorem dX16_awaited_29 : decode cX16_awaited 29 = .ok (.iload_n 3, 1) := by decide +kernel
theorem dX16_awaited_30 : decode cX16_awaited 30 = .ok (.iaload, 1) := by decide +kernel
theorem dX16_awaited_31 : decode cX16_awaited 31 = .ok (.aload_n 0, 1) := by decide +kernel
theorem dX16_awaited_32 : decode cX16_awaited 32 = .ok (.invokevirtual 758, 3) := by decide +kernel
theorem dX16_awaited_35 : decode cX16_awaited 35 = .ok (.if_icmp .ne 50, 3) := by decide +kernel
theorem dX16_awaited_38 : decode cX16_awaited 38 = .ok (.aload_n 0, 1) := by decide +kernel
theorem dX16_awaited_39 : decode cX16_awaited 39 = .ok (.getfield 143, 3) := by decide +kernel
theorem dX16_awaited_42 : decode cX16_awaited 42 = .ok (.iload_n 3, 1) := by decide +kernel
theorem dX16_awaited_43 : decode cX16_awaited 43 = .ok (.iaload, 1) := by decide +kernel
theorem dX16_awaited_44 : decode cX16_awaited 44 = .ok (.iload_n 2, 1) := by decide +kernel
theorem dX16_awaited_45 : decode cX16_awaited 45 = .ok (.if_icmp .ne 40, 3) := by decide +kernel
theorem dX16_awaited_48 : decode cX16_awaited 48 = .ok (.aload_n 0, 1) := by decide +kernel
theorem dX16_awaited_49 : decode cX16_awaited 49 = .ok (.getfield 149, 3) := by decide +kernel
theorem dX16_awaited_52 : decode cX16_awaited 52 = .ok (.iload_n 3, 1) := by decide +kernel
theorem dX16_awaited_53 : decode cX16_awaited 53 = .ok (.iaload, 1) := by decide +kernel
theorem dX16_awaited_54 : decode cX16_awaited 54 = .ok (.aload_n 0, 1) := by decide +kernel
theorem dX16_awaited_55 : decode cX16_awaited 55 = .ok (.getfield 361, 3) := by decide +kernel
theorem dX16_awaited_58 : decode cX16_awaited 58 = .ok (.iconst 0, 1) := by decide +kernel
theorem dX16_awaited_59 : decode cX16_awaited 59 = .ok (.iaload, 1) := by decide +kernel
theorem dX16_awaited_60 : decode cX16_awaited 60 = .ok (.iconst 1, 1) := by decide +kernel
theorem dX16_awaited_61 : decode cX16_awaited 61 = .ok (.isub, 1) := by decide +kernel
theorem dX16_awaited_62 : decode cX16_awaited 62 = .ok (.if_icmp .ne 23, 3) := by decide +kernel
theorem dX16_awaited_65 : decode cX16_awaited 65 = .ok (.aload_n 0, 1) := by decide +kernel
theorem dX16_awaited_66 : decode cX16_awaited 66 = .ok (.getfield 146, 3) := by decide +kernel
theorem dX16_awaited_69 : decode cX16_awaited 69 = .ok (.iconst 5, 1) := by decide +kernel
theorem dX16_awaited_70 : decode cX16_awaited 70 = .ok (.iload_n 3, 1) := by decide +kernel
theorem dX16_awaited_71 : decode cX16_awaited 71 = .ok (.imul, 1) := by decide +kernel
theorem dX16_awaited_72 : decode cX16_awaited 72 = .ok (.aload_n 0, 1) := by decide +kernel
theorem dX16_awaited_73 : decode cX16_awaited 73 = .ok (.getfield 364, 3) := by decide +kernel
theorem dX16_awaited_76 : decode cX16_awaited 76 = .ok (.iconst 0, 1) := by decide +kernel
theorem dX16_awaited_77 : decode cX16_awaited 77 = .ok (.invokestatic 434, 3) := by decide +kernel
theorem dX16_awaited_80 : decode cX16_awaited 80 = .ok (.ifCond .eq 5, 3) := by decide +kernel
theorem dX16_awaited_83 : decode cX16_awaited 83 = .ok (.iload_n 3, 1) := by decide +kernel
theorem dX16_awaited_84 : decode cX16_awaited 84 = .ok (.ireturn, 1) := by decide +kernel
theorem dX16_awaited_85 : decode cX16_awaited 85 = .ok (.iinc 3 1, 3) := by decide +kernel
theorem dX16_awaited_88 : decode cX16_awaited 88 = .ok (.goto (-83), 3) := by decide +kernel
theorem dX16_awaited_91 : decode cX16_awaited 91 = .ok (.iconst (-1), 1) := by decide +kernel
theorem dX16_awaited_92 : decode cX16_awaited 92 = .ok (.ireturn, 1) := by decide +kernel
def j_X16_awaited_85 (x1 x2 x3 : Int) (V : VV) : Option ((Int) ⊕ (Int)) :=
  cnt (x3 + 1)
def b_X16_awaited_5 (x1 x2 x3 : Int) (V : VV) : Option ((Int) ⊕ (Int)) :=
  if w32 x3 < w32 ((40 * x1) + 40) then
    (l2 197 1280 x3 V).bind fun v1 =>
    if w32 v1 = 0 then
      j_X16_awaited_85 x1 x2 x3 V
    else
      (l2 198 1280 x3 V).bind fun v2 =>
      (f_X16_numberIn V).bind fun v3 =>
      if w32 v2 = w32 v3 then
        (l2 199 1280 x3 V).bind fun v4 =>
        if w32 v4 = w32 x2 then
          (l2 201 1280 x3 V).bind fun v5 =>
          (l2 271 460 0 V).bind fun v6 =>
          if w32 v5 = w32 (v6 - 1) then
            (f_X16_same 200 (5 * x3) 272 0 V).bind fun v7 =>
            if w32 v7 = 0 then
              j_X16_awaited_85 x1 x2 x3 V
            else
              xit (some x3)
          else
            j_X16_awaited_85 x1 x2 x3 V
        else
          j_X16_awaited_85 x1 x2 x3 V
      else
        j_X16_awaited_85 x1 x2 x3 V
  else
    xit (some (-1))
def l_X16_awaited_5 (x1 x2 x3 : Int) (V : VV) : Option (Int) := lpN (fun s : Int => b_X16_awaited_5 x1 x2 s V) FU x3
def f_X16_awaited (x1 x2 : Int) (V : VV) : Option (Int) :=
  l_X16_awaited_5 x1 x2 (40 * x1) V
theorem s_X16_awaited_85 {g : GG} {d : Nat} (hD : 1 ≤ d) {x1 x2 x3 : Int} {M : MM} (hM : LM M) {V : VV} {o : AV × MM} {P : ((Int) ⊕ (Int)) → Prop} (c0 : ∀ s : Int, P (.inl s) → Sem g d YX16_awaited 5 [(1, 156), (0, x1), (0, x2), (0, s)] [] (wr M V) o) (r0 : ∀ r : Int, P (.inr r) → o = ((0, r), (wr M V))) {z : (Int) ⊕ (Int)} (h : j_X16_awaited_85 x1 x2 x3 V = some z) (hz : P z) : Sem g d YX16_awaited 85 [(1, 156), (0, x1), (0, x2), (0, x3)] [] (wr M V) o := by
  delta j_X16_awaited_85 at h
  refine S_iinc dX16_awaited_85 rfl rfl rfl ?_
  change Sem g d YX16_awaited 88 [(1, 156), (0, x1), (0, x2), (0, x3 + 1)] [] (wr M V) o
  refine S_goto (tgt := 5) dX16_awaited_88 rfl ?_
  exact c0 (x3 + 1) (some_P (P := fun r => P r) h hz)
theorem s_X16_awaited_5 {g : GG} {d : Nat} (hD : 1 ≤ d) {x1 x2 x3 : Int} {M : MM} (hM : LM M) {V : VV} {o : AV × MM} {P : ((Int) ⊕ (Int)) → Prop} (c0 : ∀ s : Int, P (.inl s) → Sem g d YX16_awaited 5 [(1, 156), (0, x1), (0, x2), (0, s)] [] (wr M V) o) (r0 : ∀ r : Int, P (.inr r) → o = ((0, r), (wr M V))) {z : (Int) ⊕ (Int)} (h : b_X16_awaited_5 x1 x2 x3 V = some z) (hz : P z) : Sem g d YX16_awaited 5 [(1, 156), (0, x1), (0, x2), (0, x3)] [] (wr M V) o := by
  delta b_X16_awaited_5 at h
  refine S_iload_n (i := 3) dX16_awaited_5 rfl rfl ?_
  refine S_bipush (z := 40) dX16_awaited_6 rfl ?_
  refine S_iload_n (i := 1) dX16_awaited_8 rfl rfl ?_
  refine S_imul dX16_awaited_9 ?_
  refine S_bipush (z := 40) dX16_awaited_10 rfl ?_
  refine S_iadd dX16_awaited_12 ?_
  refine P_icmp_ge (tgt := 91) dX16_awaited_13 rfl h (fun h => ?_) (fun h => ?_)
  · obtain ⟨z0, h, hz⟩ := xit_some' (P := fun r => P r) h hz
    refine S_iconst dX16_awaited_91 rfl ?_
    obtain rfl := r0 _ (some_P (P := fun r => P (.inr r)) h hz)
    exact P_ret dX16_awaited_92 rfl (Or.inl rfl)
  · refine S_aload_n (i := 0) dX16_awaited_16 rfl rfl ?_
    refine P2_gfr hM (a := 197) FLX16_137 rfl ⟨rfl, rfl⟩ dX16_awaited_17 ?_
    refine S_iload_n (i := 3) dX16_awaited_20 rfl rfl ?_
    refine P2_laz hM (a := 197) (n := 1280) rfl dX16_awaited_21 h (fun v1 h => ?_)
    refine P_if_eq (tgt := 85) dX16_awaited_22 rfl h (fun h => ?_) (fun h => ?_)
    · exact s_X16_awaited_85 hD hM c0 r0 h hz
    · refine S_aload_n (i := 0) dX16_awaited_25 rfl rfl ?_
      refine P2_gfr hM (a := 198) FLX16_140 rfl ⟨rfl, rfl⟩ dX16_awaited_26 ?_
      refine S_iload_n (i := 3) dX16_awaited_29 rfl rfl ?_
      refine P2_lai hM (a := 198) (n := 1280) rfl dX16_awaited_30 h (fun v2 h => ?_)
      refine S_aload_n (i := 0) dX16_awaited_31 rfl rfl ?_
      refine P2_invVp hM 0 [] [(0, v2)] CVX16_numberIn MLX16_758 dX16_awaited_32 rfl rfl rfl rfl rfl (by omega) h (fun r h => F_X16_numberIn (by omega) hM h) (fun v3 h => ?_)
      refine P_icmp_ne (tgt := 85) dX16_awaited_35 rfl h (fun h => ?_) (fun h => ?_)
      · exact s_X16_awaited_85 hD hM c0 r0 h hz
      · refine S_aload_n (i := 0) dX16_awaited_38 rfl rfl ?_
        refine P2_gfr hM (a := 199) FLX16_143 rfl ⟨rfl, rfl⟩ dX16_awaited_39 ?_
        refine S_iload_n (i := 3) dX16_awaited_42 rfl rfl ?_
        refine P2_lai hM (a := 199) (n := 1280) rfl dX16_awaited_43 h (fun v4 h => ?_)
        refine S_iload_n (i := 2) dX16_awaited_44 rfl rfl ?_
        refine P_icmp_ne (tgt := 85) dX16_awaited_45 rfl h (fun h => ?_) (fun h => ?_)
        · exact s_X16_awaited_85 hD hM c0 r0 h hz
        · refine S_aload_n (i := 0) dX16_awaited_48 rfl rfl ?_
          refine P2_gfr hM (a := 201) FLX16_149 rfl ⟨rfl, rfl⟩ dX16_awaited_49 ?_
          refine S_iload_n (i := 3) dX16_awaited_52 rfl rfl ?_
          refine P2_lai hM (a := 201) (n := 1280) rfl dX16_awaited_53 h (fun v5 h => ?_)
          refine S_aload_n (i := 0) dX16_awaited_54 rfl rfl ?_
          refine P2_gfr hM (a := 271) FLX16_361 rfl ⟨rfl, rfl⟩ dX16_awaited_55 ?_
          refine S_iconst dX16_awaited_58 rfl ?_
          refine P2_lai hM (a := 271) (n := 460) rfl dX16_awaited_59 h (fun v6 h => ?_)
          refine S_iconst dX16_awaited_60 rfl ?_
          refine S_isub dX16_awaited_61 ?_
          refine P_icmp_ne (tgt := 85) dX16_awaited_62 rfl h (fun h => ?_) (fun h => ?_)
          · exact s_X16_awaited_85 hD hM c0 r0 h hz
          · refine S_aload_n (i := 0) dX16_awaited_65 rfl rfl ?_
            refine P2_gfr hM (a := 200) FLX16_146 rfl ⟨rfl, rfl⟩ dX16_awaited_66 ?_
            refine S_iconst dX16_awaited_69 rfl ?_
            refine S_iload_n (i := 3) dX16_awaited_70 rfl rfl ?_
            refine S_imul dX16_awaited_71 ?_
            refine S_aload_n (i := 0) dX16_awaited_72 rfl rfl ?_
            refine P2_gfr hM (a := 272) FLX16_364 rfl ⟨rfl, rfl⟩ dX16_awaited_73 ?_
            refine S_iconst dX16_awaited_76 rfl ?_
            refine P_invSp 0 [(1, 200), (0, 5 * x3), (1, 272), (0, 0)] [] CSX16_same MLX16_434 dX16_awaited_77 rfl rfl rfl rfl rfl (by omega) h (fun r h => F_X16_same (by omega) hM h) (fun v7 h => ?_)
            refine P_if_eq (tgt := 85) dX16_awaited_80 rfl h (fun h => ?_) (fun h => ?_)
            · exact s_X16_awaited_85 hD hM c0 r0 h hz
            · obtain ⟨z0, h, hz⟩ := xit_some' (P := fun r => P r) h hz
              refine S_iload_n (i := 3) dX16_awaited_83 rfl rfl ?_
              obtain rfl := r0 _ (some_P (P := fun r => P (.inr r)) h hz)
              exact P_ret dX16_awaited_84 rfl (Or.inl rfl)
theorem sl_X16_awaited_5 {g : GG} {d : Nat} (hD : 1 ≤ d) {x1 x2 x3 : Int} {M : MM} (hM : LM M) {V : VV} {o : AV × MM} {P : (Int) → Prop} (r0 : ∀ r : Int, P r → o = ((0, r), (wr M V))) {z : Int} (h : l_X16_awaited_5 x1 x2 x3 V = some z) (hz : P z) : Sem g d YX16_awaited 5 [(1, 156), (0, x1), (0, x2), (0, x3)] [] (wr M V) o := by
  refine lp_sound (S := fun s : Int => Sem g d YX16_awaited 5 [(1, 156), (0, x1), (0, x2), (0, s)] [] (wr M V) o) (P := P) ?_ FU x3 z h hz
  intro s x hx hP
  exact s_X16_awaited_5 hD hM (P := Sum.elim (fun s : Int => Sem g d YX16_awaited 5 [(1, 156), (0, x1), (0, x2), (0, s)] [] (wr M V) o) P) (fun s h => h) (fun s h => r0 s h) hx hP
theorem s_X16_awaited_0 {g : GG} {d : Nat} (hD : 1 ≤ d) {x1 x2 : Int} {M : MM} (hM : LM M) {V : VV} {o : AV × MM} {P : (Int) → Prop} (r0 : ∀ r : Int, P r → o = ((0, r), (wr M V))) {z : Int} (h : f_X16_awaited x1 x2 V = some z) (hz : P z) : Sem g d YX16_awaited 0 [(1, 156), (0, x1), (0, x2), (9, 0)] [] (wr M V) o := by
  delta f_X16_awaited at h
  refine S_bipush (z := 40) dX16_awaited_0 rfl ?_
  refine S_iload_n (i := 1) dX16_awaited_2 rfl rfl ?_
  refine S_imul dX16_awaited_3 ?_
  refine S_istore_n (i := 3) dX16_awaited_4 rfl (Nat.le_of_ble_eq_true rfl) rfl rfl ?_
  change Sem g d YX16_awaited 5 [(1, 156), (0, x1), (0, x2), (0, 40 * x1)] [] (wr M V) o
  exact sl_X16_awaited_5 hD hM r0 h hz
theorem F_X16_awaited {g : GG} {d : Nat} (hD : 1 ≤ d) {x1 x2 : Int} {M : MM} (hM : LM M) {V : VV} {r : Int} (h : f_X16_awaited x1 x2 V = some r) : Sem g d YX16_awaited 0 (ini YX16_awaited [(1, 156), (0, x1), (0, x2)]) [] (wr M V) ((0, r), (wr M V)) := by
  change Sem g d YX16_awaited 0 [(1, 156), (0, x1), (0, x2), (9, 0)] [] (wr M V) ((0, r), (wr M V))
  exact s_X16_awaited_0 hD hM (P := fun x => x = r) (fun q e => by rw [e]) h rfl
/-! PeerSearchModel.lose(I[III)V -/
theorem dX16_lose_0 : decode cX16_lose 0 = .ok (.aload_n 0, 1) := by decide +kernel
theorem dX16_lose_1 : decode cX16_lose 1 = .ok (.iload_n 1, 1) := by decide +kernel
theorem dX16_lose_2 : decode cX16_lose 2 = .ok (.aload_n 2, 1) := by decide +kernel
theorem dX16_lose_3 : decode cX16_lose 3 = .ok (.iload_n 3, 1) := by decide +kernel
theorem dX16_lose_4 : decode cX16_lose 4 = .ok (.invokevirtual 507, 3) := by decide +kernel
theorem dX16_lose_7 : decode cX16_lose 7 = .ok (.istore 5, 2) := by decide +kernel
theorem dX16_lose_9 : decode cX16_lose 9 = .ok (.iload 5, 2) := by decide +kernel
theorem dX16_lose_11 : decode cX16_lose 11 = .ok (.ifCond .lt 15, 3) := by decide +kernel
theorem dX16_lose_14 : decode cX16_lose 14 = .ok (.aload_n 0, 1) := by decide +kernel
theorem dX16_lose_15 : decode cX16_lose 15 = .ok (.getfield 118, 3) := by decide +kernel
theorem dX16_lose_18 : decode cX16_lose 18 = .ok (.iload 5, 2) := by decide +kernel
theorem dX16_lose_20 : decode cX16_lose 20 = .ok (.iaload, 1) := by decide +kernel
theorem dX16_lose_21 : decode cX16_lose 21 = .ok (.iload 4, 2) := by decide +kernel
theorem dX16_lose_23 : decode cX16_lose 23 = .ok (.if_icmp .eq 4, 3) := by decide +kernel
theorem dX16_lose_26 : decode cX16_lose 26 = .ok (.return_, 1) := by decide +kernel
theorem dX16_lose_27 : decode cX16_lose 27 = .ok (.aload_n 0, 1) := by decide +kernel
theorem dX16_lose_28 : decode cX16_lose 28 = .ok (.getfield 121, 3) := by decide +kernel
theorem dX16_lose_31 : decode cX16_lose 31 = .ok (.iload 5, 2) := by decide +kernel
theorem dX16_lose_33 : decode cX16_lose 33 = .ok (.iaload, 1) := by decide +kernel
theorem dX16_lose_34 : decode cX16_lose 34 = .ok (.istore 6, 2) := by decide +kernel
theorem dX16_lose_36 : decode cX16_lose 36 = .ok (.aload_n 0, 1) := by decide +kernel
theorem dX16_lose_37 : decode cX16_lose 37 = .ok (.getfield 124, 3) := by decide +kernel
theorem dX16_lose_40 : decode cX16_lose 40 = .ok (.iload 5, 2) := by decide +kernel
theorem dX16_lose_42 : decode cX16_lose 42 = .ok (.baload, 1) := by decide +kernel
theorem dX16_lose_43 : decode cX16_lose 43 = .ok (.istore 7, 2) := by decide +kernel
theorem dX16_lose_45 : decode cX16_lose 45 = .ok (.aload_n 0, 1) := by decide +kernel
theorem dX16_lose_46 : decode cX16_lose 46 = .ok (.iload_n 1, 1) := by decide +kernel
theorem dX16_lose_47 : decode cX16_lose 47 = .ok (.iload 5, 2) := by decide +kernel
theorem dX16_lose_49 : decode cX16_lose 49 = .ok (.invokevirtual 515, 3) := by decide +kernel
theorem dX16_lose_52 : decode cX16_lose 52 = .ok (.iload 7, 2) := by decide +kernel
theorem dX16_lose_54 : decode cX16_lose 54 = .ok (.ifCond .eq 4, 3) := by decide +kernel
theorem dX16_lose_57 : decode cX16_lose 57 = .ok (.return_, 1) := by decide +kernel
theorem dX16_lose_58 : decode cX16_lose 58 = .ok (.aload_n 0, 1) := by decide +kernel
theorem dX16_lose_59 : decode cX16_lose 59 = .ok (.iload_n 1, 1) := by decide +kernel
theorem dX16_lose_60 : decode cX16_lose 60 = .ok (.iload 6, 2) := by decide +kernel
theorem dX16_lose_62 : decode cX16_lose 62 = .ok (.iconst 1, 1) := by decide +kernel
theorem dX16_lose_63 : decode cX16_lose 63 = .ok (.iconst 0, 1) := by decide +kernel
theorem dX16_lose_64 : decode cX16_lose 64 = .ok (.invokevirtual 522, 3) := by decide +kernel
theorem dX16_lose_67 : decode cX16_lose 67 = .ok (.istore 8, 2) := by decide +kernel
theorem dX16_lose_69 : decode cX16_lose 69 = .ok (.iload 8, 2) := by decide +kernel
theorem dX16_lose_71 : decode cX16_lose 71 = .ok (.ifCond .lt 17, 3) := by decide +kernel
theorem dX16_lose_74 : decode cX16_lose 74 = .ok (.aload_n 0, 1) := by decide +kernel
theorem dX16_lose_75 : decode cX16_lose 75 = .ok (.getfield 124, 3) := by decide +kernel
theorem dX16_lose_78 : decode cX16_lose 78 = .ok (.iload 8, 2) := by decide +kernel
theorem dX16_lose_80 : decode cX16_lose 80 = .ok (.iconst 0, 1) := by decide +kernel
theorem dX16_lose_81 : decode cX16_lose 81 = .ok (.bastore, 1) := by decide +kernel
theorem dX16_lose_82 : decode cX16_lose 82 = .ok (.aload_n 0, 1) := by decide +kernel
theorem dX16_lose_83 : decode cX16_lose 83 = .ok (.iload 8, 2) := by decide +kernel
theorem dX16_lose_85 : decode cX16_lose 85 = .ok (.invokevirtual 500, 3) := by decide +kernel
theorem dX16_lose_88 : decode cX16_lose 88 = .ok (.return_, 1) := by decide +kernel
def j_X16_lose_88 (V : VV) : Option (VV) :=
  some V
def j_X16_lose_26 (V : VV) : Option (VV) :=
  some V
def f_X16_lose (x1 x2 x3 x4 : Int) (V : VV) : Option (VV) :=
  (f_X16_rowWith x1 x2 x3 V).bind fun v1 =>
  if w32 v1 < 0 then
    j_X16_lose_26 V
  else
    (l2 191 35200 v1 V).bind fun v2 =>
    if w32 v2 = w32 x4 then
      (l2 192 35200 v1 V).bind fun v3 =>
      (l2 193 35200 v1 V).bind fun v4 =>
      (f_X16_removeRow x1 v1 V).bind fun V1 =>
      if w32 v4 = 0 then
        (f_X16_edge x1 v3 1 0 V1).bind fun v5 =>
        if w32 v5 < 0 then
          j_X16_lose_88 V1
        else
          (s2z 193 35200 v5 0 V1).bind fun V2 =>
          (f_X16_touch v5 V2).bind fun V3 =>
          j_X16_lose_88 V3
      else
        some V1
    else
      j_X16_lose_26 V
theorem s_X16_lose_88 {g : GG} {d : Nat} (hD : 2 ≤ d) {M : MM} (hM : LM M) {V : VV} {o : AV × MM} {P : (VV) → Prop} (r0 : ∀ r : VV, P r → o = ((9, 0), (wr M r))) {z : VV} (h : j_X16_lose_88 V = some z) (hz : P z) : Sem g d YX16_lose 88 [(9, 0), (9, 0), (9, 0), (9, 0), (9, 0), (9, 0), (9, 0), (9, 0), (9, 0)] [] (wr M V) o := by
  delta j_X16_lose_88 at h
  obtain rfl := r0 _ (some_P (P := fun r => P r) h hz)
  exact S_return dX16_lose_88 rfl
theorem s_X16_lose_26 {g : GG} {d : Nat} (hD : 2 ≤ d) {M : MM} (hM : LM M) {V : VV} {o : AV × MM} {P : (VV) → Prop} (r0 : ∀ r : VV, P r → o = ((9, 0), (wr M r))) {z : VV} (h : j_X16_lose_26 V = some z) (hz : P z) : Sem g d YX16_lose 26 [(9, 0), (9, 0), (9, 0), (9, 0), (9, 0), (9, 0), (9, 0), (9, 0), (9, 0)] [] (wr M V) o := by
  delta j_X16_lose_26 at h
  obtain rfl := r0 _ (some_P (P := fun r => P r) h hz)
  exact S_return dX16_lose_26 rfl
theorem s_X16_lose_0 {g : GG} {d : Nat} (hD : 2 ≤ d) {x1 x2 x3 x4 : Int} {M : MM} (hM : LM M) {V : VV} {o : AV × MM} {P : (VV) → Prop} (r0 : ∀ r : VV, P r → o = ((9, 0), (wr M r))) {z : VV} (h : f_X16_lose x1 x2 x3 x4 V = some z) (hz : P z) : Sem g d YX16_lose 0 [(1, 156), (0, x1), (1, x2), (0, x3), (0, x4), (9, 0), (9, 0), (9, 0), (9, 0)] [] (wr M V) o := by
  delta f_X16_lose at h
  refine S_aload_n (i := 0) dX16_lose_0 rfl rfl ?_
  refine S_iload_n (i := 1) dX16_lose_1 rfl rfl ?_
  refine S_aload_n (i := 2) dX16_lose_2 rfl rfl ?_
  refine S_iload_n (i := 3) dX16_lose_3 rfl rfl ?_
  refine P2_invVp hM 0 [(0, x1), (1, x2), (0, x3)] [] CVX16_rowWith MLX16_507 dX16_lose_4 rfl rfl rfl rfl rfl (by omega) h (fun r h => F_X16_rowWith (by omega) hM h) (fun v1 h => ?_)
  refine S_istore dX16_lose_7 (Nat.le_of_ble_eq_true rfl) rfl rfl ?_
  change Sem g d YX16_lose 9 [(1, 156), (0, x1), (1, x2), (0, x3), (0, x4), (0, v1), (9, 0), (9, 0), (9, 0)] [] (wr M V) o
  refine S_iload dX16_lose_9 rfl ?_
  refine P_if_lt (tgt := 26) dX16_lose_11 rfl h (fun h => ?_) (fun h => ?_)
  · refine S_weak (ls' := [(9, 0), (9, 0), (9, 0), (9, 0), (9, 0), (9, 0), (9, 0), (9, 0), (9, 0)]) ⟨Or.inl rfl, ⟨Or.inl rfl, ⟨Or.inl rfl, ⟨Or.inl rfl, ⟨Or.inl rfl, ⟨Or.inl rfl, ⟨Or.inl rfl, ⟨Or.inl rfl, ⟨Or.inl rfl, trivial⟩⟩⟩⟩⟩⟩⟩⟩⟩ ?_
    exact s_X16_lose_26 hD hM r0 h hz
  · refine S_aload_n (i := 0) dX16_lose_14 rfl rfl ?_
    refine P2_gfr hM (a := 191) FLX16_118 rfl ⟨rfl, rfl⟩ dX16_lose_15 ?_
    refine S_iload dX16_lose_18 rfl ?_
    refine P2_lai hM (a := 191) (n := 35200) rfl dX16_lose_20 h (fun v2 h => ?_)
    refine S_iload dX16_lose_21 rfl ?_
    refine P_icmp_eq (tgt := 27) dX16_lose_23 rfl h (fun h => ?_) (fun h => ?_)
    · refine S_aload_n (i := 0) dX16_lose_27 rfl rfl ?_
      refine P2_gfr hM (a := 192) FLX16_121 rfl ⟨rfl, rfl⟩ dX16_lose_28 ?_
      refine S_iload dX16_lose_31 rfl ?_
      refine P2_lai hM (a := 192) (n := 35200) rfl dX16_lose_33 h (fun v3 h => ?_)
      refine S_istore dX16_lose_34 (Nat.le_of_ble_eq_true rfl) rfl rfl ?_
      change Sem g d YX16_lose 36 [(1, 156), (0, x1), (1, x2), (0, x3), (0, x4), (0, v1), (0, v3), (9, 0), (9, 0)] [] (wr M V) o
      refine S_aload_n (i := 0) dX16_lose_36 rfl rfl ?_
      refine P2_gfr hM (a := 193) FLX16_124 rfl ⟨rfl, rfl⟩ dX16_lose_37 ?_
      refine S_iload dX16_lose_40 rfl ?_
      refine P2_laz hM (a := 193) (n := 35200) rfl dX16_lose_42 h (fun v4 h => ?_)
      refine S_istore dX16_lose_43 (Nat.le_of_ble_eq_true rfl) rfl rfl ?_
      change Sem g d YX16_lose 45 [(1, 156), (0, x1), (1, x2), (0, x3), (0, x4), (0, v1), (0, v3), (0, v4), (9, 0)] [] (wr M V) o
      refine S_aload_n (i := 0) dX16_lose_45 rfl rfl ?_
      refine S_iload_n (i := 1) dX16_lose_46 rfl rfl ?_
      refine S_iload dX16_lose_47 rfl ?_
      refine P2_invVm hM [(0, x1), (0, v1)] [] CVX16_removeRow MLX16_515 dX16_lose_49 rfl rfl rfl rfl (by omega) h (fun r h => F_X16_removeRow (by omega) hM h) (fun V1 h => ?_)
      refine S_iload dX16_lose_52 rfl ?_
      refine P_if_eq (tgt := 58) dX16_lose_54 rfl h (fun h => ?_) (fun h => ?_)
      · refine S_aload_n (i := 0) dX16_lose_58 rfl rfl ?_
        refine S_iload_n (i := 1) dX16_lose_59 rfl rfl ?_
        refine S_iload dX16_lose_60 rfl ?_
        refine S_iconst dX16_lose_62 rfl ?_
        refine S_iconst dX16_lose_63 rfl ?_
        refine P2_invVp hM 0 [(0, x1), (0, v3), (0, 1), (0, 0)] [] CVX16_edge MLX16_522 dX16_lose_64 rfl rfl rfl rfl rfl (by omega) h (fun r h => F_X16_edge (by omega) hM h) (fun v5 h => ?_)
        refine S_istore dX16_lose_67 (Nat.le_of_ble_eq_true rfl) rfl rfl ?_
        change Sem g d YX16_lose 69 [(1, 156), (0, x1), (1, x2), (0, x3), (0, x4), (0, v1), (0, v3), (0, v4), (0, v5)] [] (wr M V1) o
        refine S_iload dX16_lose_69 rfl ?_
        refine P_if_lt (tgt := 88) dX16_lose_71 rfl h (fun h => ?_) (fun h => ?_)
        · refine S_weak (ls' := [(9, 0), (9, 0), (9, 0), (9, 0), (9, 0), (9, 0), (9, 0), (9, 0), (9, 0)]) ⟨Or.inl rfl, ⟨Or.inl rfl, ⟨Or.inl rfl, ⟨Or.inl rfl, ⟨Or.inl rfl, ⟨Or.inl rfl, ⟨Or.inl rfl, ⟨Or.inl rfl, ⟨Or.inl rfl, trivial⟩⟩⟩⟩⟩⟩⟩⟩⟩ ?_
          exact s_X16_lose_88 hD hM r0 h hz
        · refine S_aload_n (i := 0) dX16_lose_74 rfl rfl ?_
          refine P2_gfr hM (a := 193) FLX16_124 rfl ⟨rfl, rfl⟩ dX16_lose_75 ?_
          refine S_iload dX16_lose_78 rfl ?_
          refine S_iconst dX16_lose_80 rfl ?_
          refine P2_saz hM (a := 193) (n := 35200) rfl dX16_lose_81 h (fun V2 h => ?_)
          refine S_aload_n (i := 0) dX16_lose_82 rfl rfl ?_
          refine S_iload dX16_lose_83 rfl ?_
          refine P2_invVm hM [(0, v5)] [] CVX16_touch MLX16_500 dX16_lose_85 rfl rfl rfl rfl (by omega) h (fun r h => F_X16_touch (by omega) hM h) (fun V3 h => ?_)
          refine S_weak (ls' := [(9, 0), (9, 0), (9, 0), (9, 0), (9, 0), (9, 0), (9, 0), (9, 0), (9, 0)]) ⟨Or.inl rfl, ⟨Or.inl rfl, ⟨Or.inl rfl, ⟨Or.inl rfl, ⟨Or.inl rfl, ⟨Or.inl rfl, ⟨Or.inl rfl, ⟨Or.inl rfl, ⟨Or.inl rfl, trivial⟩⟩⟩⟩⟩⟩⟩⟩⟩ ?_
          exact s_X16_lose_88 hD hM r0 h hz
      · obtain rfl := r0 _ (some_P (P := fun r => P r) h hz)
        exact S_return dX16_lose_57 rfl
    · refine S_weak (ls' := [(9, 0), (9, 0), (9, 0), (9, 0), (9, 0), (9, 0), (9, 0), (9, 0), (9, 0)]) ⟨Or.inl rfl, ⟨Or.inl rfl, ⟨Or.inl rfl, ⟨Or.inl rfl, ⟨Or.inl rfl, ⟨Or.inl rfl, ⟨Or.inl rfl, ⟨Or.inl rfl, ⟨Or.inl rfl, trivial⟩⟩⟩⟩⟩⟩⟩⟩⟩ ?_
      exact s_X16_lose_26 hD hM r0 h hz
theorem F_X16_lose {g : GG} {d : Nat} (hD : 2 ≤ d) {x1 x2 x3 x4 : Int} {M : MM} (hM : LM M) {V : VV} {r : VV} (h : f_X16_lose x1 x2 x3 x4 V = some r) : Sem g d YX16_lose 0 (ini YX16_lose [(1, 156), (0, x1), (1, x2), (0, x3), (0, x4)]) [] (wr M V) ((9, 0), (wr M r)) := by
  change Sem g d YX16_lose 0 [(1, 156), (0, x1), (1, x2), (0, x3), (0, x4), (9, 0), (9, 0), (9, 0), (9, 0)] [] (wr M V) ((9, 0), (wr M r))
  exact s_X16_lose_0 hD hM (P := fun x => x = r) (fun q e => by rw [e]) h rfl
/-! PeerSearchModel.areNodes(II)Z -/
theorem dX16_areNodes_0 : decode cX16_areNodes 0 = .ok (.iconst 1, 1) := by decide +kernel
theorem dX16_areNodes_1 : decode cX16_areNodes 1 = .ok (.istore_n 3, 1) := by decide +kernel
theorem dX16_areNodes_2 : decode cX16_areNodes 2 = .ok (.iconst 0, 1) := by decide +kernel
theorem dX16_areNodes_3 : decode cX16_areNodes 3 = .ok (.istore 4, 2) := by decide +kernel
theorem dX16_areNodes_5 : decode cX16_areNodes 5 = .ok (.iload 4, 2) := by decide +kernel
theorem dX16_areNodes_7 : decode cX16_areNodes 7 = .ok (.iload_n 2, 1) := by decide +kernel
theorem dX16_areNodes_8 : decode cX16_areNodes 8 = .ok (.if_icmp .ge 39, 3) := by decide +kernel
theorem dX16_areNodes_11 : decode cX16_areNodes 11 = .ok (.iload_n 3, 1) := by decide +kernel
theorem dX16_areNodes_12 : decode cX16_areNodes 12 = .ok (.ifCond .eq 27, 3) := by decide +kernel
theorem dX16_areNodes_15 : decode cX16_areNodes 15 = .ok (.aload_n 0, 1) := by decide +kernel
theorem dX16_areNodes_16 : decode cX16_areNodes 16 = .ok (.getfield 361, 3) := by decide +kernel
theorem dX16_areNodes_19 : decode cX16_areNodes 19 = .ok (.iload_n 1, 1) := by decide +kernel
theorem dX16_areNodes_20 : decode cX16_areNodes 20 = .ok (.bipush 21, 2) := by decide +kernel
theorem dX16_areNodes_22 : decode cX16_areNodes 22 = .ok (.iload 4, 2) := by decide +kernel
theorem dX16_areNodes_24 : decode cX16_areNodes 24 = .ok (.imul, 1) := by decide +kernel
theorem dX16_areNodes_25 : decode cX16_areNodes 25 = .ok (.iadd, 1) := by decide +kernel
theorem dX16_areNodes_26 : decode cX16_areNodes 26 = .ok (.bipush 20, 2) := by decide +kernel
theorem dX16_areNodes_28 : decode cX16_areNodes 28 = .ok (.iadd, 1) := by decide +kernel
theorem dX16_areNodes_29 : decode cX16_areNodes 29 = .ok (.iaload, 1) := by decide +kernel
theorem dX16_areNodes_30 : decode cX16_areNodes 30 = .ok (.bipush 32, 2) := by decide +kernel
theorem dX16_areNodes_32 : decode cX16_areNodes 32 = .ok (.if_icmp .ge 7, 3) := by decide +kernel
theorem dX16_areNodes_35 : decode cX16_areNodes 35 = .ok (.iconst 1, 1) := by decide +kernel
theorem dX16_areNodes_36 : decode cX16_areNodes 36 = .ok (.goto 4, 3) := by decide +kernel
theorem dX16_areNodes_39 : decode cX16_areNodes 39 = .ok (.iconst 0, 1) := by decide +kernel
theorem dX16_areNodes_40 : decode cX16_areNodes 40 = .ok (.istore_n 3, 1) := by decide +kernel
theorem dX16_areNodes_41 : decode cX16_areNodes 41 = .ok (.iinc 4 1, 3) := by decide +kernel
theorem dX16_areNodes_44 : decode cX16_areNodes 44 = .ok (.goto (-39), 3) := by decide +kernel
theorem dX16_areNodes_47 : decode cX16_areNodes 47 = .ok (.iload_n 3, 1) := by decide +kernel
theorem dX16_areNodes_48 : decode cX16_areNodes 48 = .ok (.ireturn, 1) := by decide +kernel
def j_X16_areNodes_40 (x1 x2 x4 y0 : Int) (V : VV) : Option ((Int × Int) ⊕ (Int)) :=
  cnt (y0, x4 + 1)
def j_X16_areNodes_39 (x1 x2 x4 : Int) (V : VV) : Option ((Int × Int) ⊕ (Int)) :=
  j_X16_areNodes_40 x1 x2 x4 0 V
def b_X16_areNodes_5 (x1 x2 x3 x4 : Int) (V : VV) : Option ((Int × Int) ⊕ (Int)) :=
  if w32 x4 < w32 x2 then
    if w32 x3 = 0 then
      j_X16_areNodes_39 x1 x2 x4 V
    else
      (l2 271 460 ((x1 + (21 * x4)) + 20) V).bind fun v1 =>
      if w32 v1 < w32 32 then
        j_X16_areNodes_40 x1 x2 x4 1 V
      else
        j_X16_areNodes_39 x1 x2 x4 V
  else
    xit (bz x3 (some x3))
def l_X16_areNodes_5 (x1 x2 x3 x4 : Int) (V : VV) : Option (Int) := lpN (fun s : Int × Int => b_X16_areNodes_5 x1 x2 s.1 s.2 V) FU (x3, x4)
def f_X16_areNodes (x1 x2 : Int) (V : VV) : Option (Int) :=
  l_X16_areNodes_5 x1 x2 1 0 V
theorem s_X16_areNodes_40 {g : GG} {d : Nat} (hD : 0 ≤ d) {x1 x2 x4 y0 : Int} {M : MM} (hM : LM M) {V : VV} {o : AV × MM} {P : ((Int × Int) ⊕ (Int)) → Prop} (c0 : ∀ s : Int × Int, P (.inl s) → Sem g d YX16_areNodes 5 [(1, 156), (0, x1), (0, x2), (0, s.1), (0, s.2)] [] (wr M V) o) (r0 : ∀ r : Int, P (.inr r) → o = ((0, r), (wr M V))) {z : (Int × Int) ⊕ (Int)} (h : j_X16_areNodes_40 x1 x2 x4 y0 V = some z) (hz : P z) : Sem g d YX16_areNodes 40 [(1, 156), (0, x1), (0, x2), (9, 0), (0, x4)] [(0, y0)] (wr M V) o := by
  delta j_X16_areNodes_40 at h
  refine S_istore_n (i := 3) dX16_areNodes_40 rfl (Nat.le_of_ble_eq_true rfl) rfl rfl ?_
  change Sem g d YX16_areNodes 41 [(1, 156), (0, x1), (0, x2), (0, y0), (0, x4)] [] (wr M V) o
  refine S_iinc dX16_areNodes_41 rfl rfl rfl ?_
  change Sem g d YX16_areNodes 44 [(1, 156), (0, x1), (0, x2), (0, y0), (0, x4 + 1)] [] (wr M V) o
  refine S_goto (tgt := 5) dX16_areNodes_44 rfl ?_
  exact c0 (y0, x4 + 1) (some_P (P := fun r => P r) h hz)
theorem s_X16_areNodes_39 {g : GG} {d : Nat} (hD : 0 ≤ d) {x1 x2 x4 : Int} {M : MM} (hM : LM M) {V : VV} {o : AV × MM} {P : ((Int × Int) ⊕ (Int)) → Prop} (c0 : ∀ s : Int × Int, P (.inl s) → Sem g d YX16_areNodes 5 [(1, 156), (0, x1), (0, x2), (0, s.1), (0, s.2)] [] (wr M V) o) (r0 : ∀ r : Int, P (.inr r) → o = ((0, r), (wr M V))) {z : (Int × Int) ⊕ (Int)} (h : j_X16_areNodes_39 x1 x2 x4 V = some z) (hz : P z) : Sem g d YX16_areNodes 39 [(1, 156), (0, x1), (0, x2), (9, 0), (0, x4)] [] (wr M V) o := by
  delta j_X16_areNodes_39 at h
  refine S_iconst dX16_areNodes_39 rfl ?_
  exact s_X16_areNodes_40 hD hM c0 r0 h hz
theorem s_X16_areNodes_5 {g : GG} {d : Nat} (hD : 0 ≤ d) {x1 x2 x3 x4 : Int} {M : MM} (hM : LM M) {V : VV} {o : AV × MM} {P : ((Int × Int) ⊕ (Int)) → Prop} (c0 : ∀ s : Int × Int, P (.inl s) → Sem g d YX16_areNodes 5 [(1, 156), (0, x1), (0, x2), (0, s.1), (0, s.2)] [] (wr M V) o) (r0 : ∀ r : Int, P (.inr r) → o = ((0, r), (wr M V))) {z : (Int × Int) ⊕ (Int)} (h : b_X16_areNodes_5 x1 x2 x3 x4 V = some z) (hz : P z) : Sem g d YX16_areNodes 5 [(1, 156), (0, x1), (0, x2), (0, x3), (0, x4)] [] (wr M V) o := by
  delta b_X16_areNodes_5 at h
  refine S_iload dX16_areNodes_5 rfl ?_
  refine S_iload_n (i := 2) dX16_areNodes_7 rfl rfl ?_
  refine P_icmp_ge (tgt := 47) dX16_areNodes_8 rfl h (fun h => ?_) (fun h => ?_)
  · obtain ⟨z0, h, hz⟩ := xit_some' (P := fun r => P r) h hz
    refine S_iload_n (i := 3) dX16_areNodes_47 rfl rfl ?_
    obtain ⟨hb, h⟩ := bz_some h
    obtain rfl := r0 _ (some_P (P := fun r => P (.inr r)) h hz)
    exact P_ret dX16_areNodes_48 rfl (Or.inr ⟨rfl, hb⟩)
  · refine S_iload_n (i := 3) dX16_areNodes_11 rfl rfl ?_
    refine P_if_eq (tgt := 39) dX16_areNodes_12 rfl h (fun h => ?_) (fun h => ?_)
    · refine S_weak (ls' := [(1, 156), (0, x1), (0, x2), (9, 0), (0, x4)]) ⟨Or.inr rfl, ⟨Or.inr rfl, ⟨Or.inr rfl, ⟨Or.inl rfl, ⟨Or.inr rfl, trivial⟩⟩⟩⟩⟩ ?_
      exact s_X16_areNodes_39 hD hM c0 r0 h hz
    · refine S_aload_n (i := 0) dX16_areNodes_15 rfl rfl ?_
      refine P2_gfr hM (a := 271) FLX16_361 rfl ⟨rfl, rfl⟩ dX16_areNodes_16 ?_
      refine S_iload_n (i := 1) dX16_areNodes_19 rfl rfl ?_
      refine S_bipush (z := 21) dX16_areNodes_20 rfl ?_
      refine S_iload dX16_areNodes_22 rfl ?_
      refine S_imul dX16_areNodes_24 ?_
      refine S_iadd dX16_areNodes_25 ?_
      refine S_bipush (z := 20) dX16_areNodes_26 rfl ?_
      refine S_iadd dX16_areNodes_28 ?_
      refine P2_lai hM (a := 271) (n := 460) rfl dX16_areNodes_29 h (fun v1 h => ?_)
      refine S_bipush (z := 32) dX16_areNodes_30 rfl ?_
      refine P_icmp_ge (tgt := 39) dX16_areNodes_32 rfl h (fun h => ?_) (fun h => ?_)
      · refine S_weak (ls' := [(1, 156), (0, x1), (0, x2), (9, 0), (0, x4)]) ⟨Or.inr rfl, ⟨Or.inr rfl, ⟨Or.inr rfl, ⟨Or.inl rfl, ⟨Or.inr rfl, trivial⟩⟩⟩⟩⟩ ?_
        exact s_X16_areNodes_39 hD hM c0 r0 h hz
      · refine S_iconst dX16_areNodes_35 rfl ?_
        refine S_goto (tgt := 40) dX16_areNodes_36 rfl ?_
        refine S_weak (ls' := [(1, 156), (0, x1), (0, x2), (9, 0), (0, x4)]) ⟨Or.inr rfl, ⟨Or.inr rfl, ⟨Or.inr rfl, ⟨Or.inl rfl, ⟨Or.inr rfl, trivial⟩⟩⟩⟩⟩ ?_
        exact s_X16_areNodes_40 hD hM c0 r0 h hz
theorem sl_X16_areNodes_5 {g : GG} {d : Nat} (hD : 0 ≤ d) {x1 x2 x3 x4 : Int} {M : MM} (hM : LM M) {V : VV} {o : AV × MM} {P : (Int) → Prop} (r0 : ∀ r : Int, P r → o = ((0, r), (wr M V))) {z : Int} (h : l_X16_areNodes_5 x1 x2 x3 x4 V = some z) (hz : P z) : Sem g d YX16_areNodes 5 [(1, 156), (0, x1), (0, x2), (0, x3), (0, x4)] [] (wr M V) o := by
  refine lp_sound (S := fun s : Int × Int => Sem g d YX16_areNodes 5 [(1, 156), (0, x1), (0, x2), (0, s.1), (0, s.2)] [] (wr M V) o) (P := P) ?_ FU (x3, x4) z h hz
  intro s x hx hP
  exact s_X16_areNodes_5 hD hM (P := Sum.elim (fun s : Int × Int => Sem g d YX16_areNodes 5 [(1, 156), (0, x1), (0, x2), (0, s.1), (0, s.2)] [] (wr M V) o) P) (fun s h => h) (fun s h => r0 s h) hx hP
theorem s_X16_areNodes_0 {g : GG} {d : Nat} (hD : 0 ≤ d) {x1 x2 : Int} {M : MM} (hM : LM M) {V : VV} {o : AV × MM} {P : (Int) → Prop} (r0 : ∀ r : Int, P r → o = ((0, r), (wr M V))) {z : Int} (h : f_X16_areNodes x1 x2 V = some z) (hz : P z) : Sem g d YX16_areNodes 0 [(1, 156), (0, x1), (0, x2), (9, 0), (9, 0)] [] (wr M V) o := by
  delta f_X16_areNodes at h
  refine S_iconst dX16_areNodes_0 rfl ?_
  refine S_istore_n (i := 3) dX16_areNodes_1 rfl (Nat.le_of_ble_eq_true rfl) rfl rfl ?_
  change Sem g d YX16_areNodes 2 [(1, 156), (0, x1), (0, x2), (0, 1), (9, 0)] [] (wr M V) o
  refine S_iconst dX16_areNodes_2 rfl ?_
  refine S_istore dX16_areNodes_3 (Nat.le_of_ble_eq_true rfl) rfl rfl ?_
  change Sem g d YX16_areNodes 5 [(1, 156), (0, x1), (0, x2), (0, 1), (0, 0)] [] (wr M V) o
  exact sl_X16_areNodes_5 hD hM r0 h hz
theorem F_X16_areNodes {g : GG} {d : Nat} (hD : 0 ≤ d) {x1 x2 : Int} {M : MM} (hM : LM M) {V : VV} {r : Int} (h : f_X16_areNodes x1 x2 V = some r) : Sem g d YX16_areNodes 0 (ini YX16_areNodes [(1, 156), (0, x1), (0, x2)]) [] (wr M V) ((0, r), (wr M V)) := by
  change Sem g d YX16_areNodes 0 [(1, 156), (0, x1), (0, x2), (9, 0), (9, 0)] [] (wr M V) ((0, r), (wr M V))
  exact s_X16_areNodes_0 hD hM (P := fun x => x = r) (fun q e => by rw [e]) h rfl
/-! PeerSearchModel.areRows(III)Z -/
theorem dX16_areRows_0 : decode cX16_areRows 0 = .ok (.iconst 1, 1) := by decide +kernel
theorem dX16_areRows_1 : decode cX16_areRows 1 = .ok (.istore 4, 2) := by decide +kernel
theorem dX16_areRows_3 : decode cX16_areRows 3 = .ok (.iconst 0, 1) := by decide +kernel
theorem dX16_areRows_4 : decode cX16_areRows 4 = .ok (.istore 5, 2) := by decide +kernel
theorem dX16_areRows_6 : decode cX16_areRows 6 = .ok (.iload 5, 2) := by decide +kernel
theorem dX16_areRows_8 : decode cX16_areRows 8 = .ok (.iload_n 2, 1) := by decide +kernel
theorem dX16_areRows_9 : decode cX16_areRows 9 = .ok (.if_icmp .ge 98, 3) := by decide +kernel
theorem dX16_areRows_12 : decode cX16_areRows 12 = .ok (.iload_n 1, 1) := by decide +kernel
theorem dX16_areRows_13 : decode cX16_areRows 13 = .ok (.iload_n 3, 1) := by decide +kernel
theorem dX16_areRows_14 : decode cX16_areRows 14 = .ok (.iload 5, 2) := by decide +kernel
theorem dX16_areRows_16 : decode cX16_areRows 16 = .ok (.imul, 1) := by decide +kernel
theorem dX16_areRows_17 : decode cX16_areRows 17 = .ok (.iadd, 1) := by decide +kernel
theorem dX16_areRows_18 : decode cX16_areRows 18 = .ok (.istore 6, 2) := by decide +kernel
theorem dX16_areRows_20 : decode cX16_areRows 20 = .ok (.iload 4, 2) := by decide +kernel
theorem dX16_areRows_22 : decode cX16_areRows 22 = .ok (.ifCond .eq 33, 3) := by decide +kernel
theorem dX16_areRows_25 : decode cX16_areRows 25 = .ok (.aload_n 0, 1) := by decide +kernel
theorem dX16_areRows_26 : decode cX16_areRows 26 = .ok (.getfield 361, 3) := by decide +kernel
theorem dX16_areRows_29 : decode cX16_areRows 29 = .ok (.iload 6, 2) := by decide +kernel
theorem dX16_areRows_31 : decode cX16_areRows 31 = .ok (.iaload, 1) := by decide +kernel
theorem dX16_areRows_32 : decode cX16_areRows 32 = .ok (.bipush 32, 2) := by decide +kernel
theorem dX16_areRows_34 : decode cX16_areRows 34 = .ok (.if_icmp .ge 21, 3) := by decide +kernel
theorem dX16_areRows_37 : decode cX16_areRows 37 = .ok (.aload_n 0, 1) := by decide +kernel
theorem dX16_areRows_38 : decode cX16_areRows 38 = .ok (.getfield 361, 3) := by decide +kernel
theorem dX16_areRows_41 : decode cX16_areRows 41 = .ok (.iload 6, 2) := by decide +kernel
theorem dX16_areRows_43 : decode cX16_areRows 43 = .ok (.iconst 1, 1) := by decide +kernel
theorem dX16_areRows_44 : decode cX16_areRows 44 = .ok (.iadd, 1) := by decide +kernel
theorem dX16_areRows_45 : decode cX16_areRows 45 = .ok (.iaload, 1) := by decide +kernel
theorem dX16_areRows_46 : decode cX16_areRows 46 = .ok (.bipush 16, 2) := by decide +kernel
theorem dX16_areRows_48 : decode cX16_areRows 48 = .ok (.if_icmp .ge 7, 3) := by decide +kernel
theorem dX16_areRows_51 : decode cX16_areRows 51 = .ok (.iconst 1, 1) := by decide +kernel
theorem dX16_areRows_52 : decode cX16_areRows 52 = .ok (.goto 4, 3) := by decide +kernel
theorem dX16_areRows_55 : decode cX16_areRows 55 = .ok (.iconst 0, 1) := by decide +kernel
theorem dX16_areRows_56 : decode cX16_areRows 56 = .ok (.istore 4, 2) := by decide +kernel
theorem dX16_areRows_58 : decode cX16_areRows 58 = .ok (.iload 4, 2) := by decide +kernel
theorem dX16_areRows_60 : decode cX16_areRows 60 = .ok (.ifCond .eq 38, 3) := by decide +kernel
theorem dX16_areRows_63 : decode cX16_areRows 63 = .ok (.iload_n 3, 1) := by decide +kernel
theorem dX16_areRows_64 : decode cX16_areRows 64 = .ok (.iconst 2, 1) := by decide +kernel
theorem dX16_areRows_65 : decode cX16_areRows 65 = .ok (.if_icmp .eq 29, 3) := by decide +kernel
theorem dX16_areRows_68 : decode cX16_areRows 68 = .ok (.aload_n 0, 1) := by decide +kernel
theorem dX16_areRows_69 : decode cX16_areRows 69 = .ok (.getfield 361, 3) := by decide +kernel
theorem dX16_areRows_72 : decode cX16_areRows 72 = .ok (.iload 6, 2) := by decide +kernel
theorem dX16_areRows_74 : decode cX16_areRows 74 = .ok (.iconst 2, 1) := by decide +kernel
theorem dX16_areRows_75 : decode cX16_areRows 75 = .ok (.iadd, 1) := by decide +kernel
theorem dX16_areRows_76 : decode cX16_areRows 76 = .ok (.iaload, 1) := by decide +kernel
theorem dX16_areRows_77 : decode cX16_areRows 77 = .ok (.ifCond .le 21, 3) := by decide +kernel
theorem dX16_areRows_80 : decode cX16_areRows 80 = .ok (.aload_n 0, 1) := by decide +kernel
theorem dX16_areRows_81 : decode cX16_areRows 81 = .ok (.getfield 361, 3) := by decide +kernel
theorem dX16_areRows_84 : decode cX16_areRows 84 = .ok (.iload 6, 2) := by decide +kernel
theorem dX16_areRows_86 : decode cX16_areRows 86 = .ok (.iconst 2, 1) := by decide +kernel
theorem dX16_areRows_87 : decode cX16_areRows 87 = .ok (.iadd, 1) := by decide +kernel
theorem dX16_areRows_88 : decode cX16_areRows 88 = .ok (.iaload, 1) := by decide +kernel
theorem dX16_areRows_89 : decode cX16_areRows 89 = .ok (.bipush 16, 2) := by decide +kernel
theorem dX16_areRows_91 : decode cX16_areRows 91 = .ok (.if_icmp .ge 7, 3) := by decide +kernel
theorem dX16_areRows_94 : decode cX16_areRows 94 = .ok (.iconst 1, 1) := by decide +kernel
theorem dX16_areRows_95 : decode cX16_areRows 95 = .ok (.goto 4, 3) := by decide +kernel
theorem dX16_areRows_98 : decode cX16_areRows 98 = .ok (.iconst 0, 1) := by decide +kernel
theorem dX16_areRows_99 : decode cX16_areRows 99 = .ok (.istore 4, 2) := by decide +kernel
theorem dX16_areRows_101 : decode cX16_areRows 101 = .ok (.iinc 5 1, 3) := by decide +kernel
theorem dX16_areRows_104 : decode cX16_areRows 104 = .ok (.goto (-98), 3) := by decide +kernel
theorem dX16_areRows_107 : decode cX16_areRows 107 = .ok (.iload 4, 2) := by decide +kernel
theorem dX16_areRows_109 : decode cX16_areRows 109 = .ok (.ireturn, 1) := by decide +kernel
def j_X16_areRows_99 (x1 x2 x3 x5 y0 : Int) (V : VV) : Option ((Int × Int) ⊕ (Int)) :=
  cnt (y0, x5 + 1)
def j_X16_areRows_98 (x1 x2 x3 x5 : Int) (V : VV) : Option ((Int × Int) ⊕ (Int)) :=
  j_X16_areRows_99 x1 x2 x3 x5 0 V
def j_X16_areRows_94 (x1 x2 x3 x5 : Int) (V : VV) : Option ((Int × Int) ⊕ (Int)) :=
  j_X16_areRows_99 x1 x2 x3 x5 1 V
def j_X16_areRows_56 (x1 x2 x3 x5 x6 y0 : Int) (V : VV) : Option ((Int × Int) ⊕ (Int)) :=
  if w32 y0 = 0 then
    j_X16_areRows_98 x1 x2 x3 x5 V
  else
    if w32 x3 = w32 2 then
      j_X16_areRows_94 x1 x2 x3 x5 V
    else
      (l2 271 460 (x6 + 2) V).bind fun v1 =>
      if 0 < w32 v1 then
        (l2 271 460 (x6 + 2) V).bind fun v2 =>
        if w32 v2 < w32 16 then
          j_X16_areRows_94 x1 x2 x3 x5 V
        else
          j_X16_areRows_98 x1 x2 x3 x5 V
      else
        j_X16_areRows_98 x1 x2 x3 x5 V
def j_X16_areRows_55 (x1 x2 x3 x5 x6 : Int) (V : VV) : Option ((Int × Int) ⊕ (Int)) :=
  j_X16_areRows_56 x1 x2 x3 x5 x6 0 V
def b_X16_areRows_6 (x1 x2 x3 x4 x5 : Int) (V : VV) : Option ((Int × Int) ⊕ (Int)) :=
  if w32 x5 < w32 x2 then
    if w32 x4 = 0 then
      j_X16_areRows_55 x1 x2 x3 x5 (x1 + (x3 * x5)) V
    else
      (l2 271 460 (x1 + (x3 * x5)) V).bind fun v1 =>
      if w32 v1 < w32 32 then
        (l2 271 460 ((x1 + (x3 * x5)) + 1) V).bind fun v2 =>
        if w32 v2 < w32 16 then
          j_X16_areRows_56 x1 x2 x3 x5 (x1 + (x3 * x5)) 1 V
        else
          j_X16_areRows_55 x1 x2 x3 x5 (x1 + (x3 * x5)) V
      else
        j_X16_areRows_55 x1 x2 x3 x5 (x1 + (x3 * x5)) V
  else
    xit (bz x4 (some x4))
def l_X16_areRows_6 (x1 x2 x3 x4 x5 : Int) (V : VV) : Option (Int) := lpN (fun s : Int × Int => b_X16_areRows_6 x1 x2 x3 s.1 s.2 V) FU (x4, x5)
def f_X16_areRows (x1 x2 x3 : Int) (V : VV) : Option (Int) :=
  l_X16_areRows_6 x1 x2 x3 1 0 V
theorem s_X16_areRows_99 {g : GG} {d : Nat} (hD : 0 ≤ d) {x1 x2 x3 x5 y0 : Int} {M : MM} (hM : LM M) {V : VV} {o : AV × MM} {P : ((Int × Int) ⊕ (Int)) → Prop} (c0 : ∀ s : Int × Int, P (.inl s) → Sem g d YX16_areRows 6 [(1, 156), (0, x1), (0, x2), (0, x3), (0, s.1), (0, s.2), (9, 0)] [] (wr M V) o) (r0 : ∀ r : Int, P (.inr r) → o = ((0, r), (wr M V))) {z : (Int × Int) ⊕ (Int)} (h : j_X16_areRows_99 x1 x2 x3 x5 y0 V = some z) (hz : P z) : Sem g d YX16_areRows 99 [(1, 156), (0, x1), (0, x2), (0, x3), (9, 0), (0, x5), (9, 0)] [(0, y0)] (wr M V) o := by
  delta j_X16_areRows_99 at h
  refine S_istore dX16_areRows_99 (Nat.le_of_ble_eq_true rfl) rfl rfl ?_
  change Sem g d YX16_areRows 101 [(1, 156), (0, x1), (0, x2), (0, x3), (0, y0), (0, x5), (9, 0)] [] (wr M V) o
  refine S_iinc dX16_areRows_101 rfl rfl rfl ?_
  change Sem g d YX16_areRows 104 [(1, 156), (0, x1), (0, x2), (0, x3), (0, y0), (0, x5 + 1), (9, 0)] [] (wr M V) o
  refine S_goto (tgt := 6) dX16_areRows_104 rfl ?_
  exact c0 (y0, x5 + 1) (some_P (P := fun r => P r) h hz)
theorem s_X16_areRows_98 {g : GG} {d : Nat} (hD : 0 ≤ d) {x1 x2 x3 x5 : Int} {M : MM} (hM : LM M) {V : VV} {o : AV × MM} {P : ((Int × Int) ⊕ (Int)) → Prop} (c0 : ∀ s : Int × Int, P (.inl s) → Sem g d YX16_areRows 6 [(1, 156), (0, x1), (0, x2), (0, x3), (0, s.1), (0, s.2), (9, 0)] [] (wr M V) o) (r0 : ∀ r : Int, P (.inr r) → o = ((0, r), (wr M V))) {z : (Int × Int) ⊕ (Int)} (h : j_X16_areRows_98 x1 x2 x3 x5 V = some z) (hz : P z) : Sem g d YX16_areRows 98 [(1, 156), (0, x1), (0, x2), (0, x3), (9, 0), (0, x5), (9, 0)] [] (wr M V) o := by
  delta j_X16_areRows_98 at h
  refine S_iconst dX16_areRows_98 rfl ?_
  exact s_X16_areRows_99 hD hM c0 r0 h hz
theorem s_X16_areRows_94 {g : GG} {d : Nat} (hD : 0 ≤ d) {x1 x2 x3 x5 : Int} {M : MM} (hM : LM M) {V : VV} {o : AV × MM} {P : ((Int × Int) ⊕ (Int)) → Prop} (c0 : ∀ s : Int × Int, P (.inl s) → Sem g d YX16_areRows 6 [(1, 156), (0, x1), (0, x2), (0, x3), (0, s.1), (0, s.2), (9, 0)] [] (wr M V) o) (r0 : ∀ r : Int, P (.inr r) → o = ((0, r), (wr M V))) {z : (Int × Int) ⊕ (Int)} (h : j_X16_areRows_94 x1 x2 x3 x5 V = some z) (hz : P z) : Sem g d YX16_areRows 94 [(1, 156), (0, x1), (0, x2), (0, x3), (9, 0), (0, x5), (9, 0)] [] (wr M V) o := by
  delta j_X16_areRows_94 at h
  refine S_iconst dX16_areRows_94 rfl ?_
  refine S_goto (tgt := 99) dX16_areRows_95 rfl ?_
  exact s_X16_areRows_99 hD hM c0 r0 h hz
theorem s_X16_areRows_56 {g : GG} {d : Nat} (hD : 0 ≤ d) {x1 x2 x3 x5 x6 y0 : Int} {M : MM} (hM : LM M) {V : VV} {o : AV × MM} {P : ((Int × Int) ⊕ (Int)) → Prop} (c0 : ∀ s : Int × Int, P (.inl s) → Sem g d YX16_areRows 6 [(1, 156), (0, x1), (0, x2), (0, x3), (0, s.1), (0, s.2), (9, 0)] [] (wr M V) o) (r0 : ∀ r : Int, P (.inr r) → o = ((0, r), (wr M V))) {z : (Int × Int) ⊕ (Int)} (h : j_X16_areRows_56 x1 x2 x3 x5 x6 y0 V = some z) (hz : P z) : Sem g d YX16_areRows 56 [(1, 156), (0, x1), (0, x2), (0, x3), (9, 0), (0, x5), (0, x6)] [(0, y0)] (wr M V) o := by
  delta j_X16_areRows_56 at h
  refine S_istore dX16_areRows_56 (Nat.le_of_ble_eq_true rfl) rfl rfl ?_
  change Sem g d YX16_areRows 58 [(1, 156), (0, x1), (0, x2), (0, x3), (0, y0), (0, x5), (0, x6)] [] (wr M V) o
  refine S_iload dX16_areRows_58 rfl ?_
  refine P_if_eq (tgt := 98) dX16_areRows_60 rfl h (fun h => ?_) (fun h => ?_)
  · refine S_weak (ls' := [(1, 156), (0, x1), (0, x2), (0, x3), (9, 0), (0, x5), (9, 0)]) ⟨Or.inr rfl, ⟨Or.inr rfl, ⟨Or.inr rfl, ⟨Or.inr rfl, ⟨Or.inl rfl, ⟨Or.inr rfl, ⟨Or.inl rfl, trivial⟩⟩⟩⟩⟩⟩⟩ ?_
    exact s_X16_areRows_98 hD hM c0 r0 h hz
  · refine S_iload_n (i := 3) dX16_areRows_63 rfl rfl ?_
    refine S_iconst dX16_areRows_64 rfl ?_
    refine P_icmp_eq (tgt := 94) dX16_areRows_65 rfl h (fun h => ?_) (fun h => ?_)
    · refine S_weak (ls' := [(1, 156), (0, x1), (0, x2), (0, x3), (9, 0), (0, x5), (9, 0)]) ⟨Or.inr rfl, ⟨Or.inr rfl, ⟨Or.inr rfl, ⟨Or.inr rfl, ⟨Or.inl rfl, ⟨Or.inr rfl, ⟨Or.inl rfl, trivial⟩⟩⟩⟩⟩⟩⟩ ?_
      exact s_X16_areRows_94 hD hM c0 r0 h hz
    · refine S_aload_n (i := 0) dX16_areRows_68 rfl rfl ?_
      refine P2_gfr hM (a := 271) FLX16_361 rfl ⟨rfl, rfl⟩ dX16_areRows_69 ?_
      refine S_iload dX16_areRows_72 rfl ?_
      refine S_iconst dX16_areRows_74 rfl ?_
      refine S_iadd dX16_areRows_75 ?_
      refine P2_lai hM (a := 271) (n := 460) rfl dX16_areRows_76 h (fun v1 h => ?_)
      refine P_if_le (tgt := 98) dX16_areRows_77 rfl h (fun h => ?_) (fun h => ?_)
      · refine S_weak (ls' := [(1, 156), (0, x1), (0, x2), (0, x3), (9, 0), (0, x5), (9, 0)]) ⟨Or.inr rfl, ⟨Or.inr rfl, ⟨Or.inr rfl, ⟨Or.inr rfl, ⟨Or.inl rfl, ⟨Or.inr rfl, ⟨Or.inl rfl, trivial⟩⟩⟩⟩⟩⟩⟩ ?_
        exact s_X16_areRows_98 hD hM c0 r0 h hz
      · refine S_aload_n (i := 0) dX16_areRows_80 rfl rfl ?_
        refine P2_gfr hM (a := 271) FLX16_361 rfl ⟨rfl, rfl⟩ dX16_areRows_81 ?_
        refine S_iload dX16_areRows_84 rfl ?_
        refine S_iconst dX16_areRows_86 rfl ?_
        refine S_iadd dX16_areRows_87 ?_
        refine P2_lai hM (a := 271) (n := 460) rfl dX16_areRows_88 h (fun v2 h => ?_)
        refine S_bipush (z := 16) dX16_areRows_89 rfl ?_
        refine P_icmp_ge (tgt := 98) dX16_areRows_91 rfl h (fun h => ?_) (fun h => ?_)
        · refine S_weak (ls' := [(1, 156), (0, x1), (0, x2), (0, x3), (9, 0), (0, x5), (9, 0)]) ⟨Or.inr rfl, ⟨Or.inr rfl, ⟨Or.inr rfl, ⟨Or.inr rfl, ⟨Or.inl rfl, ⟨Or.inr rfl, ⟨Or.inl rfl, trivial⟩⟩⟩⟩⟩⟩⟩ ?_
          exact s_X16_areRows_98 hD hM c0 r0 h hz
        · refine S_weak (ls' := [(1, 156), (0, x1), (0, x2), (0, x3), (9, 0), (0, x5), (9, 0)]) ⟨Or.inr rfl, ⟨Or.inr rfl, ⟨Or.inr rfl, ⟨Or.inr rfl, ⟨Or.inl rfl, ⟨Or.inr rfl, ⟨Or.inl rfl, trivial⟩⟩⟩⟩⟩⟩⟩ ?_
          exact s_X16_areRows_94 hD hM c0 r0 h hz
theorem s_X16_areRows_55 {g : GG} {d : Nat} (hD : 0 ≤ d) {x1 x2 x3 x5 x6 : Int} {M : MM} (hM : LM M) {V : VV} {o : AV × MM} {P : ((Int × Int) ⊕ (Int)) → Prop} (c0 : ∀ s : Int × Int, P (.inl s) → Sem g d YX16_areRows 6 [(1, 156), (0, x1), (0, x2), (0, x3), (0, s.1), (0, s.2), (9, 0)] [] (wr M V) o) (r0 : ∀ r : Int, P (.inr r) → o = ((0, r), (wr M V))) {z : (Int × Int) ⊕ (Int)} (h : j_X16_areRows_55 x1 x2 x3 x5 x6 V = some z) (hz : P z) : Sem g d YX16_areRows 55 [(1, 156), (0, x1), (0, x2), (0, x3), (9, 0), (0, x5), (0, x6)] [] (wr M V) o := by
  delta j_X16_areRows_55 at h
  refine S_iconst dX16_areRows_55 rfl ?_
  exact s_X16_areRows_56 hD hM c0 r0 h hz
theorem s_X16_areRows_6 {g : GG} {d : Nat} (hD : 0 ≤ d) {x1 x2 x3 x4 x5 : Int} {M : MM} (hM : LM M) {V : VV} {o : AV × MM} {P : ((Int × Int) ⊕ (Int)) → Prop} (c0 : ∀ s : Int × Int, P (.inl s) → Sem g d YX16_areRows 6 [(1, 156), (0, x1), (0, x2), (0, x3), (0, s.1), (0, s.2), (9, 0)] [] (wr M V) o) (r0 : ∀ r : Int, P (.inr r) → o = ((0, r), (wr M V))) {z : (Int × Int) ⊕ (Int)} (h : b_X16_areRows_6 x1 x2 x3 x4 x5 V = some z) (hz : P z) : Sem g d YX16_areRows 6 [(1, 156), (0, x1), (0, x2), (0, x3), (0, x4), (0, x5), (9, 0)] [] (wr M V) o := by
  delta b_X16_areRows_6 at h
  refine S_iload dX16_areRows_6 rfl ?_
  refine S_iload_n (i := 2) dX16_areRows_8 rfl rfl ?_
  refine P_icmp_ge (tgt := 107) dX16_areRows_9 rfl h (fun h => ?_) (fun h => ?_)
  · obtain ⟨z0, h, hz⟩ := xit_some' (P := fun r => P r) h hz
    refine S_iload dX16_areRows_107 rfl ?_
    obtain ⟨hb, h⟩ := bz_some h
    obtain rfl := r0 _ (some_P (P := fun r => P (.inr r)) h hz)
    exact P_ret dX16_areRows_109 rfl (Or.inr ⟨rfl, hb⟩)
  · refine S_iload_n (i := 1) dX16_areRows_12 rfl rfl ?_
    refine S_iload_n (i := 3) dX16_areRows_13 rfl rfl ?_
    refine S_iload dX16_areRows_14 rfl ?_
    refine S_imul dX16_areRows_16 ?_
    refine S_iadd dX16_areRows_17 ?_
    refine S_istore dX16_areRows_18 (Nat.le_of_ble_eq_true rfl) rfl rfl ?_
    change Sem g d YX16_areRows 20 [(1, 156), (0, x1), (0, x2), (0, x3), (0, x4), (0, x5), (0, x1 + (x3 * x5))] [] (wr M V) o
    refine S_iload dX16_areRows_20 rfl ?_
    refine P_if_eq (tgt := 55) dX16_areRows_22 rfl h (fun h => ?_) (fun h => ?_)
    · refine S_weak (ls' := [(1, 156), (0, x1), (0, x2), (0, x3), (9, 0), (0, x5), (0, x1 + (x3 * x5))]) ⟨Or.inr rfl, ⟨Or.inr rfl, ⟨Or.inr rfl, ⟨Or.inr rfl, ⟨Or.inl rfl, ⟨Or.inr rfl, ⟨Or.inr rfl, trivial⟩⟩⟩⟩⟩⟩⟩ ?_
      exact s_X16_areRows_55 hD hM c0 r0 h hz
    · refine S_aload_n (i := 0) dX16_areRows_25 rfl rfl ?_
      refine P2_gfr hM (a := 271) FLX16_361 rfl ⟨rfl, rfl⟩ dX16_areRows_26 ?_
      refine S_iload dX16_areRows_29 rfl ?_
      refine P2_lai hM (a := 271) (n := 460) rfl dX16_areRows_31 h (fun v1 h => ?_)
      refine S_bipush (z := 32) dX16_areRows_32 rfl ?_
      refine P_icmp_ge (tgt := 55) dX16_areRows_34 rfl h (fun h => ?_) (fun h => ?_)
      · refine S_weak (ls' := [(1, 156), (0, x1), (0, x2), (0, x3), (9, 0), (0, x5), (0, x1 + (x3 * x5))]) ⟨Or.inr rfl, ⟨Or.inr rfl, ⟨Or.inr rfl, ⟨Or.inr rfl, ⟨Or.inl rfl, ⟨Or.inr rfl, ⟨Or.inr rfl, trivial⟩⟩⟩⟩⟩⟩⟩ ?_
        exact s_X16_areRows_55 hD hM c0 r0 h hz
      · refine S_aload_n (i := 0) dX16_areRows_37 rfl rfl ?_
        refine P2_gfr hM (a := 271) FLX16_361 rfl ⟨rfl, rfl⟩ dX16_areRows_38 ?_
        refine S_iload dX16_areRows_41 rfl ?_
        refine S_iconst dX16_areRows_43 rfl ?_
        refine S_iadd dX16_areRows_44 ?_
        refine P2_lai hM (a := 271) (n := 460) rfl dX16_areRows_45 h (fun v2 h => ?_)
        refine S_bipush (z := 16) dX16_areRows_46 rfl ?_
        refine P_icmp_ge (tgt := 55) dX16_areRows_48 rfl h (fun h => ?_) (fun h => ?_)
        · refine S_weak (ls' := [(1, 156), (0, x1), (0, x2), (0, x3), (9, 0), (0, x5), (0, x1 + (x3 * x5))]) ⟨Or.inr rfl, ⟨Or.inr rfl, ⟨Or.inr rfl, ⟨Or.inr rfl, ⟨Or.inl rfl, ⟨Or.inr rfl, ⟨Or.inr rfl, trivial⟩⟩⟩⟩⟩⟩⟩ ?_
          exact s_X16_areRows_55 hD hM c0 r0 h hz
        · refine S_iconst dX16_areRows_51 rfl ?_
          refine S_goto (tgt := 56) dX16_areRows_52 rfl ?_
          refine S_weak (ls' := [(1, 156), (0, x1), (0, x2), (0, x3), (9, 0), (0, x5), (0, x1 + (x3 * x5))]) ⟨Or.inr rfl, ⟨Or.inr rfl, ⟨Or.inr rfl, ⟨Or.inr rfl, ⟨Or.inl rfl, ⟨Or.inr rfl, ⟨Or.inr rfl, trivial⟩⟩⟩⟩⟩⟩⟩ ?_
          exact s_X16_areRows_56 hD hM c0 r0 h hz
theorem sl_X16_areRows_6 {g : GG} {d : Nat} (hD : 0 ≤ d) {x1 x2 x3 x4 x5 : Int} {M : MM} (hM : LM M) {V : VV} {o : AV × MM} {P : (Int) → Prop} (r0 : ∀ r : Int, P r → o = ((0, r), (wr M V))) {z : Int} (h : l_X16_areRows_6 x1 x2 x3 x4 x5 V = some z) (hz : P z) : Sem g d YX16_areRows 6 [(1, 156), (0, x1), (0, x2), (0, x3), (0, x4), (0, x5), (9, 0)] [] (wr M V) o := by
  refine lp_sound (S := fun s : Int × Int => Sem g d YX16_areRows 6 [(1, 156), (0, x1), (0, x2), (0, x3), (0, s.1), (0, s.2), (9, 0)] [] (wr M V) o) (P := P) ?_ FU (x4, x5) z h hz
  intro s x hx hP
  exact s_X16_areRows_6 hD hM (P := Sum.elim (fun s : Int × Int => Sem g d YX16_areRows 6 [(1, 156), (0, x1), (0, x2), (0, x3), (0, s.1), (0, s.2), (9, 0)] [] (wr M V) o) P) (fun s h => h) (fun s h => r0 s h) hx hP
theorem s_X16_areRows_0 {g : GG} {d : Nat} (hD : 0 ≤ d) {x1 x2 x3 : Int} {M : MM} (hM : LM M) {V : VV} {o : AV × MM} {P : (Int) → Prop} (r0 : ∀ r : Int, P r → o = ((0, r), (wr M V))) {z : Int} (h : f_X16_areRows x1 x2 x3 V = some z) (hz : P z) : Sem g d YX16_areRows 0 [(1, 156), (0, x1), (0, x2), (0, x3), (9, 0), (9, 0), (9, 0)] [] (wr M V) o := by
  delta f_X16_areRows at h
  refine S_iconst dX16_areRows_0 rfl ?_
  refine S_istore dX16_areRows_1 (Nat.le_of_ble_eq_true rfl) rfl rfl ?_
  change Sem g d YX16_areRows 3 [(1, 156), (0, x1), (0, x2), (0, x3), (0, 1), (9, 0), (9, 0)] [] (wr M V) o
  refine S_iconst dX16_areRows_3 rfl ?_
  refine S_istore dX16_areRows_4 (Nat.le_of_ble_eq_true rfl) rfl rfl ?_
  change Sem g d YX16_areRows 6 [(1, 156), (0, x1), (0, x2), (0, x3), (0, 1), (0, 0), (9, 0)] [] (wr M V) o
  exact sl_X16_areRows_6 hD hM r0 h hz
theorem F_X16_areRows {g : GG} {d : Nat} (hD : 0 ≤ d) {x1 x2 x3 : Int} {M : MM} (hM : LM M) {V : VV} {r : Int} (h : f_X16_areRows x1 x2 x3 V = some r) : Sem g d YX16_areRows 0 (ini YX16_areRows [(1, 156), (0, x1), (0, x2), (0, x3)]) [] (wr M V) ((0, r), (wr M V)) := by
  change Sem g d YX16_areRows 0 [(1, 156), (0, x1), (0, x2), (0, x3), (9, 0), (9, 0), (9, 0)] [] (wr M V) ((0, r), (wr M V))
  exact s_X16_areRows_0 hD hM (P := fun x => x = r) (fun q e => by rw [e]) h rfl
/-! PeerSearchModel.isHashes(I)Z -/
theorem dX16_isHashes_0 : decode cX16_isHashes 0 = .ok (.aload_n 0, 1) := by decide +kernel
theorem dX16_isHashes_1 : decode cX16_isHashes 1 = .ok (.getfield 361, 3) := by decide +kernel
theorem dX16_isHashes_4 : decode cX16_isHashes 4 = .ok (.iload_n 1, 1) := by decide +kernel
theorem dX16_isHashes_5 : decode cX16_isHashes 5 = .ok (.iaload, 1) := by decide +kernel
theorem dX16_isHashes_6 : decode cX16_isHashes 6 = .ok (.ifCond .le 18, 3) := by decide +kernel
theorem dX16_isHashes_9 : decode cX16_isHashes 9 = .ok (.aload_n 0, 1) := by decide +kernel
theorem dX16_isHashes_10 : decode cX16_isHashes 10 = .ok (.getfield 361, 3) := by decide +kernel
theorem dX16_isHashes_13 : decode cX16_isHashes 13 = .ok (.iload_n 1, 1) := by decide +kernel
theorem dX16_isHashes_14 : decode cX16_isHashes 14 = .ok (.iaload, 1) := by decide +kernel
theorem dX16_isHashes_15 : decode cX16_isHashes 15 = .ok (.bipush 9, 2) := by decide +kernel
theorem dX16_isHashes_17 : decode cX16_isHashes 17 = .ok (.if_icmp .ge 7, 3) := by decide +kernel
theorem dX16_isHashes_20 : decode cX16_isHashes 20 = .ok (.iconst 1, 1) := by decide +kernel
theorem dX16_isHashes_21 : decode cX16_isHashes 21 = .ok (.goto 4, 3) := by decide +kernel
theorem dX16_isHashes_24 : decode cX16_isHashes 24 = .ok (.iconst 0, 1) := by decide +kernel
theorem dX16_isHashes_25 : decode cX16_isHashes 25 = .ok (.ireturn, 1) := by decide +kernel
def j_X16_isHashes_25 (y0 : Int) (V : VV) : Option (Int) :=
  bz y0 (some y0)
def j_X16_isHashes_24 (V : VV) : Option (Int) :=
  j_X16_isHashes_25 0 V
def f_X16_isHashes (x1 : Int) (V : VV) : Option (Int) :=
  (l2 271 460 x1 V).bind fun v1 =>
  if 0 < w32 v1 then
    (l2 271 460 x1 V).bind fun v2 =>
    if w32 v2 < w32 9 then
      j_X16_isHashes_25 1 V
    else
      j_X16_isHashes_24 V
  else
    j_X16_isHashes_24 V
theorem s_X16_isHashes_25 {g : GG} {d : Nat} (hD : 0 ≤ d) {y0 : Int} {M : MM} (hM : LM M) {V : VV} {o : AV × MM} {P : (Int) → Prop} (r0 : ∀ r : Int, P r → o = ((0, r), (wr M V))) {z : Int} (h : j_X16_isHashes_25 y0 V = some z) (hz : P z) : Sem g d YX16_isHashes 25 [(9, 0), (9, 0)] [(0, y0)] (wr M V) o := by
  delta j_X16_isHashes_25 at h
  obtain ⟨hb, h⟩ := bz_some h
  obtain rfl := r0 _ (some_P (P := fun r => P r) h hz)
  exact P_ret dX16_isHashes_25 rfl (Or.inr ⟨rfl, hb⟩)
theorem s_X16_isHashes_24 {g : GG} {d : Nat} (hD : 0 ≤ d) {M : MM} (hM : LM M) {V : VV} {o : AV × MM} {P : (Int) → Prop} (r0 : ∀ r : Int, P r → o = ((0, r), (wr M V))) {z : Int} (h : j_X16_isHashes_24 V = some z) (hz : P z) : Sem g d YX16_isHashes 24 [(9, 0), (9, 0)] [] (wr M V) o := by
  delta j_X16_isHashes_24 at h
  refine S_iconst dX16_isHashes_24 rfl ?_
  exact s_X16_isHashes_25 hD hM r0 h hz
theorem s_X16_isHashes_0 {g : GG} {d : Nat} (hD : 0 ≤ d) {x1 : Int} {M : MM} (hM : LM M) {V : VV} {o : AV × MM} {P : (Int) → Prop} (r0 : ∀ r : Int, P r → o = ((0, r), (wr M V))) {z : Int} (h : f_X16_isHashes x1 V = some z) (hz : P z) : Sem g d YX16_isHashes 0 [(1, 156), (0, x1)] [] (wr M V) o := by
  delta f_X16_isHashes at h
  refine S_aload_n (i := 0) dX16_isHashes_0 rfl rfl ?_
  refine P2_gfr hM (a := 271) FLX16_361 rfl ⟨rfl, rfl⟩ dX16_isHashes_1 ?_
  refine S_iload_n (i := 1) dX16_isHashes_4 rfl rfl ?_
  refine P2_lai hM (a := 271) (n := 460) rfl dX16_isHashes_5 h (fun v1 h => ?_)
  refine P_if_le (tgt := 24) dX16_isHashes_6 rfl h (fun h => ?_) (fun h => ?_)
  · refine S_weak (ls' := [(9, 0), (9, 0)]) ⟨Or.inl rfl, ⟨Or.inl rfl, trivial⟩⟩ ?_
    exact s_X16_isHashes_24 hD hM r0 h hz
  · refine S_aload_n (i := 0) dX16_isHashes_9 rfl rfl ?_
    refine P2_gfr hM (a := 271) FLX16_361 rfl ⟨rfl, rfl⟩ dX16_isHashes_10 ?_
    refine S_iload_n (i := 1) dX16_isHashes_13 rfl rfl ?_
    refine P2_lai hM (a := 271) (n := 460) rfl dX16_isHashes_14 h (fun v2 h => ?_)
    refine S_bipush (z := 9) dX16_isHashes_15 rfl ?_
    refine P_icmp_ge (tgt := 24) dX16_isHashes_17 rfl h (fun h => ?_) (fun h => ?_)
    · refine S_weak (ls' := [(9, 0), (9, 0)]) ⟨Or.inl rfl, ⟨Or.inl rfl, trivial⟩⟩ ?_
      exact s_X16_isHashes_24 hD hM r0 h hz
    · refine S_iconst dX16_isHashes_20 rfl ?_
      refine S_goto (tgt := 25) dX16_isHashes_21 rfl ?_
      refine S_weak (ls' := [(9, 0), (9, 0)]) ⟨Or.inl rfl, ⟨Or.inl rfl, trivial⟩⟩ ?_
      exact s_X16_isHashes_25 hD hM r0 h hz
theorem F_X16_isHashes {g : GG} {d : Nat} (hD : 0 ≤ d) {x1 : Int} {M : MM} (hM : LM M) {V : VV} {r : Int} (h : f_X16_isHashes x1 V = some r) : Sem g d YX16_isHashes 0 (ini YX16_isHashes [(1, 156), (0, x1)]) [] (wr M V) ((0, r), (wr M V)) := by
  change Sem g d YX16_isHashes 0 [(1, 156), (0, x1)] [] (wr M V) ((0, r), (wr M V))
  exact s_X16_isHashes_0 hD hM (P := fun x => x = r) (fun q e => by rw [e]) h rfl
/-! PeerSearchModel.wellFormed()Z -/
theorem dX16_wellFormed_0 : decode cX16_wellFormed 0 = .ok (.aload_n 0, 1) := by decide +kernel
theorem dX16_wellFormed_1 : decode cX16_wellFormed 1 = .ok (.getfield 742, 3) := by decide +kernel
theorem dX16_wellFormed_4 : decode cX16_wellFormed 4 = .ok (.bipush 25, 2) := by decide +kernel
theorem dX16_wellFormed_6 : decode cX16_wellFormed 6 = .ok (.if_icmp .ge 5, 3) := by decide +kernel
theorem dX16_wellFormed_9 : decode cX16_wellFormed 9 = .ok (.iconst 0, 1) := by decide +kernel
theorem dX16_wellFormed_10 : decode cX16_wellFormed 10 = .ok (.ireturn, 1) := by decide +kernel
theorem dX16_wellFormed_11 : decode cX16_wellFormed 11 = .ok (.aload_n 0, 1) := by decide +kernel
theorem dX16_wellFormed_12 : decode cX16_wellFormed 12 = .ok (.getfield 361, 3) := by decide +kernel
theorem dX16_wellFormed_15 : decode cX16_wellFormed 15 = .ok (.iconst 0, 1) := by decide +kernel
theorem dX16_wellFormed_16 : decode cX16_wellFormed 16 = .ok (.iaload, 1) := by decide +kernel
theorem dX16_wellFormed_17 : decode cX16_wellFormed 17 = .ok (.tableswitch 582 1 15 #[75, 75, 90, 105, 90, 163, 221, 75, 90, 283, 338, 393, 462, 524, 75], 75) := by decide +kernel
theorem dX16_wellFormed_92 : decode cX16_wellFormed 92 = .ok (.aload_n 0, 1) := by decide +kernel
theorem dX16_wellFormed_93 : decode cX16_wellFormed 93 = .ok (.getfield 742, 3) := by decide +kernel
theorem dX16_wellFormed_96 : decode cX16_wellFormed 96 = .ok (.bipush 25, 2) := by decide +kernel
theorem dX16_wellFormed_98 : decode cX16_wellFormed 98 = .ok (.if_icmp .ne 7, 3) := by decide +kernel
theorem dX16_wellFormed_101 : decode cX16_wellFormed 101 = .ok (.iconst 1, 1) := by decide +kernel
theorem dX16_wellFormed_102 : decode cX16_wellFormed 102 = .ok (.goto 4, 3) := by decide +kernel
theorem dX16_wellFormed_105 : decode cX16_wellFormed 105 = .ok (.iconst 0, 1) := by decide +kernel
theorem dX16_wellFormed_106 : decode cX16_wellFormed 106 = .ok (.ireturn, 1) := by decide +kernel
theorem dX16_wellFormed_107 : decode cX16_wellFormed 107 = .ok (.aload_n 0, 1) := by decide +kernel
theorem dX16_wellFormed_108 : decode cX16_wellFormed 108 = .ok (.getfield 742, 3) := by decide +kernel
theorem dX16_wellFormed_111 : decode cX16_wellFormed 111 = .ok (.bipush 45, 2) := by decide +kernel
theorem dX16_wellFormed_113 : decode cX16_wellFormed 113 = .ok (.if_icmp .ne 7, 3) := by decide +kernel
theorem dX16_wellFormed_116 : decode cX16_wellFormed 116 = .ok (.iconst 1, 1) := by decide +kernel
theorem dX16_wellFormed_117 : decode cX16_wellFormed 117 = .ok (.goto 4, 3) := by decide +kernel
theorem dX16_wellFormed_120 : decode cX16_wellFormed 120 = .ok (.iconst 0, 1) := by decide +kernel
theorem dX16_wellFormed_121 : decode cX16_wellFormed 121 = .ok (.ireturn, 1) := by decide +kernel
theorem dX16_wellFormed_122 : decode cX16_wellFormed 122 = .ok (.aload_n 0, 1) := by decide +kernel
theorem dX16_wellFormed_123 : decode cX16_wellFormed 123 = .ok (.getfield 742, 3) := by decide +kernel
theorem dX16_wellFormed_126 : decode cX16_wellFormed 126 = .ok (.bipush 26, 2) := by decide +kernel
theorem dX16_wellFormed_128 : decode cX16_wellFormed 128 = .ok (.if_icmp .ge 8, 3) := by decide +kernel
theorem dX16_wellFormed_131 : decode cX16_wellFormed 131 = .ok (.bipush 99, 2) := by decide +kernel
theorem dX16_wellFormed_133 : decode cX16_wellFormed 133 = .ok (.goto 10, 3) := by decide +kernel
theorem dX16_wellFormed_136 : decode cX16_wellFormed 136 = .ok (.aload_n 0, 1) := by decide +kernel
theorem dX16_wellFormed_137 : decode cX16_wellFormed 137 = .ok (.getfield 361, 3) := by decide +kernel
theorem dX16_wellFormed_140 : decode cX16_wellFormed 140 = .ok (.bipush 25, 2) := by decide +kernel
theorem dX16_wellFormed_142 : decode cX16_wellFormed 142 = .ok (.iaload, 1) := by decide +kernel
theorem dX16_wellFormed_143 : decode cX16_wellFormed 143 = .ok (.istore_n 1, 1) := by decide +kernel
theorem dX16_wellFormed_144 : decode cX16_wellFormed 144 = .ok (.iload_n 1, 1) := by decide +kernel
theorem dX16_wellFormed_145 : decode cX16_wellFormed 145 = .ok (.bipush 21, 2) := by decide +kernel
theorem dX16_wellFormed_147 : decode cX16_wellFormed 147 = .ok (.if_icmp .ge 31, 3) := by decide +kernel
theorem dX16_wellFormed_150 : decode cX16_wellFormed 150 = .ok (.aload_n 0, 1) := by decide +kernel
theorem dX16_wellFormed_151 : decode cX16_wellFormed 151 = .ok (.getfield 742, 3) := by decide +kernel
theorem dX16_wellFormed_154 : decode cX16_wellFormed 154 = .ok (.bipush 26, 2) := by decide +kernel
theorem dX16_wellFormed_156 : decode cX16_wellFormed 156 = .ok (.bipush 21, 2) := by decide +kernel
theorem dX16_wellFormed_158 : decode cX16_wellFormed 158 = .ok (.iload_n 1, 1) := by decide +kernel
theorem dX16_wellFormed_159 : decode cX16_wellFormed 159 = .ok (.imul, 1) := by decide +kernel
theorem dX16_wellFormed_160 : decode cX16_wellFormed 160 = .ok (.iadd, 1) := by decide +kernel
theorem dX16_wellFormed_161 : decode cX16_wellFormed 161 = .ok (.if_icmp .ne 17, 3) := by decide +kernel
theorem dX16_wellFormed_164 : decode cX16_wellFormed 164 = .ok (.aload_n 0, 1) := by decide +kernel
theorem dX16_wellFormed_165 : decode cX16_wellFormed 165 = .ok (.bipush 26, 2) := by decide +kernel
theorem dX16_wellFormed_167 : decode cX16_wellFormed 167 = .ok (.iload_n 1, 1) := by decide +kernel
theorem dX16_wellFormed_168 : decode cX16_wellFormed 168 = .ok (.invokevirtual 745, 3) := by decide +kernel
theorem dX16_wellFormed_171 : decode cX16_wellFormed 171 = .ok (.ifCond .eq 7, 3) := by decide +kernel
theorem dX16_wellFormed_174 : decode cX16_wellFormed 174 = .ok (.iconst 1, 1) := by decide +kernel
theorem dX16_wellFormed_175 : decode cX16_wellFormed 175 = .ok (.goto 4, 3) := by decide +kernel
theorem dX16_wellFormed_178 : decode cX16_wellFormed 178 = .ok (.iconst 0, 1) := by decide +kernel
theorem dX16_wellFormed_179 : decode cX16_wellFormed 179 = .ok (.ireturn, 1) := by decide +kernel
theorem dX16_wellFormed_180 : decode cX16_wellFormed 180 = .ok (.aload_n 0, 1) := by decide +kernel
theorem dX16_wellFormed_181 : decode cX16_wellFormed 181 = .ok (.getfield 742, 3) := by decide +kernel
theorem dX16_wellFormed_184 : decode cX16_wellFormed 184 = .ok (.bipush 28, 2) := by decide +kernel
theorem dX16_wellFormed_186 : decode cX16_wellFormed 186 = .ok (.if_icmp .ge 8, 3) := by decide +kernel
theorem dX16_wellFormed_189 : decode cX16_wellFormed 189 = .ok (.bipush 99, 2) := by decide +kernel
theorem dX16_wellFormed_191 : decode cX16_wellFormed 191 = .ok (.goto 10, 3) := by decide +kernel
theorem dX16_wellFormed_194 : decode cX16_wellFormed 194 = .ok (.aload_n 0, 1) := by decide +kernel
theorem dX16_wellFormed_195 : decode cX16_wellFormed 195 = .ok (.getfield 361, 3) := by decide +kernel
theorem dX16_wellFormed_198 : decode cX16_wellFormed 198 = .ok (.bipush 27, 2) := by decide +kernel
theorem dX16_wellFormed_200 : decode cX16_wellFormed 200 = .ok (.iaload, 1) := by decide +kernel
theorem dX16_wellFormed_201 : decode cX16_wellFormed 201 = .ok (.istore_n 1, 1) := by decide +kernel
theorem dX16_wellFormed_202 : decode cX16_wellFormed 202 = .ok (.iload_n 1, 1) := by decide +kernel
theorem dX16_wellFormed_203 : decode cX16_wellFormed 203 = .ok (.bipush 21, 2) := by decide +kernel
theorem dX16_wellFormed_205 : decode cX16_wellFormed 205 = .ok (.if_icmp .ge 31, 3) := by decide +kernel
theorem dX16_wellFormed_208 : decode cX16_wellFormed 208 = .ok (.aload_n 0, 1) := by decide +kernel
theorem dX16_wellFormed_209 : decode cX16_wellFormed 209 = .ok (.getfield 742, 3) := by decide +kernel
theorem dX16_wellFormed_212 : decode cX16_wellFormed 212 = .ok (.bipush 28, 2) := by decide +kernel
theorem dX16_wellFormed_214 : decode cX16_wellFormed 214 = .ok (.bipush 21, 2) := by decide +kernel
theorem dX16_wellFormed_216 : decode cX16_wellFormed 216 = .ok (.iload_n 1, 1) := by decide +kernel
theorem dX16_wellFormed_217 : decode cX16_wellFormed 217 = .ok (.imul, 1) := by decide +kernel
theorem dX16_wellFormed_218 : decode cX16_wellFormed 218 = .ok (.iadd, 1) := by decide +kernel
theorem dX16_wellFormed_219 : decode cX16_wellFormed 219 = .ok (.if_icmp .ne 17, 3) := by decide +kernel
theorem dX16_wellFormed_222 : decode cX16_wellFormed 222 = .ok (.aload_n 0, 1) := by decide +kernel
theorem dX16_wellFormed_223 : decode cX16_wellFormed 223 = .ok (.bipush 28, 2) := by decide +kernel
theorem dX16_wellFormed_225 : decode cX16_wellFormed 225 = .ok (.iload_n 1, 1) := by decide +kernel
theorem dX16_wellFormed_226 : decode cX16_wellFormed 226 = .ok (.invokevirtual 745, 3) := by decide +kernel
theorem dX16_wellFormed_229 : decode cX16_wellFormed 229 = .ok (.ifCond .eq 7, 3) := by decide +kernel
theorem dX16_wellFormed_232 : decode cX16_wellFormed 232 = .ok (.iconst 1, 1) := by decide +kernel
theorem dX16_wellFormed_233 : decode cX16_wellFormed 233 = .ok (.goto 4, 3) := by decide +kernel
theorem dX16_wellFormed_236 : decode cX16_wellFormed 236 = .ok (.iconst 0, 1) := by decide +kernel
theorem dX16_wellFormed_237 : decode cX16_wellFormed 237 = .ok (.ireturn, 1) := by decide +kernel
theorem dX16_wellFormed_238 : decode cX16_wellFormed 238 = .ok (.aload_n 0, 1) := by decide +kernel
theorem dX16_wellFormed_239 : decode cX16_wellFormed 239 = .ok (.getfield 742, 3) := by decide +kernel
theorem dX16_wellFormed_242 : decode cX16_wellFormed 242 = .ok (.bipush 46, 2) := by decide +kernel
theorem dX16_wellFormed_244 : decode cX16_wellFormed 244 = .ok (.if_icmp .ge 8, 3) := by decide +kernel
theorem dX16_wellFormed_247 : decode cX16_wellFormed 247 = .ok (.bipush 99, 2) := by decide +kernel
theorem dX16_wellFormed_249 : decode cX16_wellFormed 249 = .ok (.goto 10, 3) := by decide +kernel
theorem dX16_wellFormed_252 : decode cX16_wellFormed 252 = .ok (.aload_n 0, 1) := by decide +kernel
theorem dX16_wellFormed_253 : decode cX16_wellFormed 253 = .ok (.getfield 361, 3) := by decide +kernel
theorem dX16_wellFormed_256 : decode cX16_wellFormed 256 = .ok (.bipush 45, 2) := by decide +kernel
theorem dX16_wellFormed_258 : decode cX16_wellFormed 258 = .ok (.iaload, 1) := by decide +kernel
theorem dX16_wellFormed_259 : decode cX16_wellFormed 259 = .ok (.istore_n 1, 1) := by decide +kernel
theorem dX16_wellFormed_260 : decode cX16_wellFormed 260 = .ok (.iload_n 1, 1) := by decide +kernel
theorem dX16_wellFormed_261 : decode cX16_wellFormed 261 = .ok (.ifCond .le 37, 3) := by decide +kernel
theorem dX16_wellFormed_264 : decode cX16_wellFormed 264 = .ok (.iload_n 1, 1) := by decide +kernel
theorem dX16_wellFormed_265 : decode cX16_wellFormed 265 = .ok (.bipush 17, 2) := by decide +kernel
theorem dX16_wellFormed_267 : decode cX16_wellFormed 267 = .ok (.if_icmp .ge 31, 3) := by decide +kernel
theorem dX16_wellFormed_270 : decode cX16_wellFormed 270 = .ok (.aload_n 0, 1) := by decide +kernel
theorem dX16_wellFormed_271 : decode cX16_wellFormed 271 = .ok (.getfield 742, 3) := by decide +kernel
theorem dX16_wellFormed_274 : decode cX16_wellFormed 274 = .ok (.bipush 46, 2) := by decide +kernel
theorem dX16_wellFormed_276 : decode cX16_wellFormed 276 = .ok (.iconst 3, 1) := by decide +kernel
theorem dX16_wellFormed_277 : decode cX16_wellFormed 277 = .ok (.iload_n 1, 1) := by decide +kernel
theorem dX16_wellFormed_278 : decode cX16_wellFormed 278 = .ok (.imul, 1) := by decide +kernel
theorem dX16_wellFormed_279 : decode cX16_wellFormed 279 = .ok (.iadd, 1) := by decide +kernel
theorem dX16_wellFormed_280 : decode cX16_wellFormed 280 = .ok (.if_icmp .ne 18, 3) := by decide +kernel
theorem dX16_wellFormed_283 : decode cX16_wellFormed 283 = .ok (.aload_n 0, 1) := by decide +kernel
theorem dX16_wellFormed_284 : decode cX16_wellFormed 284 = .ok (.bipush 46, 2) := by decide +kernel
theorem dX16_wellFormed_286 : decode cX16_wellFormed 286 = .ok (.iload_n 1, 1) := by decide +kernel
theorem dX16_wellFormed_287 : decode cX16_wellFormed 287 = .ok (.iconst 3, 1) := by decide +kernel
theorem dX16_wellFormed_288 : decode cX16_wellFormed 288 = .ok (.invokevirtual 748, 3) := by decide +kernel
theorem dX16_wellFormed_291 : decode cX16_wellFormed 291 = .ok (.ifCond .eq 7, 3) := by decide +kernel
theorem dX16_wellFormed_294 : decode cX16_wellFormed 294 = .ok (.iconst 1, 1) := by decide +kernel
theorem dX16_wellFormed_295 : decode cX16_wellFormed 295 = .ok (.goto 4, 3) := by decide +kernel
theorem dX16_wellFormed_298 : decode cX16_wellFormed 298 = .ok (.iconst 0, 1) := by decide +kernel
theorem dX16_wellFormed_299 : decode cX16_wellFormed 299 = .ok (.ireturn, 1) := by decide +kernel
theorem dX16_wellFormed_300 : decode cX16_wellFormed 300 = .ok (.aload_n 0, 1) := by decide +kernel
theorem dX16_wellFormed_301 : decode cX16_wellFormed 301 = .ok (.getfield 742, 3) := by decide +kernel
theorem dX16_wellFormed_304 : decode cX16_wellFormed 304 = .ok (.bipush 30, 2) := by decide +kernel
theorem dX16_wellFormed_306 : decode cX16_wellFormed 306 = .ok (.if_icmp .ge 9, 3) := by decide +kernel
theorem dX16_wellFormed_309 : decode cX16_wellFormed 309 = .ok (.sipush 999, 3) := by decide +kernel
theorem dX16_wellFormed_312 : decode cX16_wellFormed 312 = .ok (.goto 9, 3) := by decide +kernel
theorem dX16_wellFormed_315 : decode cX16_wellFormed 315 = .ok (.aload_n 0, 1) := by decide +kernel
theorem dX16_wellFormed_316 : decode cX16_wellFormed 316 = .ok (.bipush 28, 2) := by decide +kernel
theorem dX16_wellFormed_318 : decode cX16_wellFormed 318 = .ok (.invokevirtual 752, 3) := by decide +kernel
theorem dX16_wellFormed_321 : decode cX16_wellFormed 321 = .ok (.istore_n 1, 1) := by decide +kernel
theorem dX16_wellFormed_322 : decode cX16_wellFormed 322 = .ok (.iload_n 1, 1) := by decide +kernel
theorem dX16_wellFormed_323 : decode cX16_wellFormed 323 = .ok (.sipush 291, 3) := by decide +kernel
theorem dX16_wellFormed_326 : decode cX16_wellFormed 326 = .ok (.if_icmp .ge 27, 3) := by decide +kernel
theorem dX16_wellFormed_329 : decode cX16_wellFormed 329 = .ok (.aload_n 0, 1) := by decide +kernel
theorem dX16_wellFormed_330 : decode cX16_wellFormed 330 = .ok (.getfield 742, 3) := by decide +kernel
theorem dX16_wellFormed_333 : decode cX16_wellFormed 333 = .ok (.bipush 30, 2) := by decide +kernel
theorem dX16_wellFormed_335 : decode cX16_wellFormed 335 = .ok (.iload_n 1, 1) := by decide +kernel
theorem dX16_wellFormed_336 : decode cX16_wellFormed 336 = .ok (.iadd, 1) := by decide +kernel
theorem dX16_wellFormed_337 : decode cX16_wellFormed 337 = .ok (.if_icmp .ne 16, 3) := by decide +kernel
theorem dX16_wellFormed_340 : decode cX16_wellFormed 340 = .ok (.aload_n 0, 1) := by decide +kernel
theorem dX16_wellFormed_341 : decode cX16_wellFormed 341 = .ok (.bipush 27, 2) := by decide +kernel
theorem dX16_wellFormed_343 : decode cX16_wellFormed 343 = .ok (.invokevirtual 755, 3) := by decide +kernel
theorem dX16_wellFormed_346 : decode cX16_wellFormed 346 = .ok (.ifCond .eq 7, 3) := by decide +kernel
theorem dX16_wellFormed_349 : decode cX16_wellFormed 349 = .ok (.iconst 1, 1) := by decide +kernel
theorem dX16_wellFormed_350 : decode cX16_wellFormed 350 = .ok (.goto 4, 3) := by decide +kernel
theorem dX16_wellFormed_353 : decode cX16_wellFormed 353 = .ok (.iconst 0, 1) := by decide +kernel
theorem dX16_wellFormed_354 : decode cX16_wellFormed 354 = .ok (.ireturn, 1) := by decide +kernel
theorem dX16_wellFormed_355 : decode cX16_wellFormed 355 = .ok (.aload_n 0, 1) := by decide +kernel
theorem dX16_wellFormed_356 : decode cX16_wellFormed 356 = .ok (.getfield 742, 3) := by decide +kernel
theorem dX16_wellFormed_359 : decode cX16_wellFormed 359 = .ok (.bipush 50, 2) := by decide +kernel
theorem dX16_wellFormed_361 : decode cX16_wellFormed 361 = .ok (.if_icmp .ge 9, 3) := by decide +kernel
theorem dX16_wellFormed_364 : decode cX16_wellFormed 364 = .ok (.sipush 999, 3) := by decide +kernel
theorem dX16_wellFormed_367 : decode cX16_wellFormed 367 = .ok (.goto 9, 3) := by decide +kernel
theorem dX16_wellFormed_370 : decode cX16_wellFormed 370 = .ok (.aload_n 0, 1) := by decide +kernel
theorem dX16_wellFormed_371 : decode cX16_wellFormed 371 = .ok (.bipush 48, 2) := by decide +kernel
theorem dX16_wellFormed_373 : decode cX16_wellFormed 373 = .ok (.invokevirtual 752, 3) := by decide +kernel
theorem dX16_wellFormed_376 : decode cX16_wellFormed 376 = .ok (.istore_n 1, 1) := by decide +kernel
theorem dX16_wellFormed_377 : decode cX16_wellFormed 377 = .ok (.iload_n 1, 1) := by decide +kernel
theorem dX16_wellFormed_378 : decode cX16_wellFormed 378 = .ok (.sipush 291, 3) := by decide +kernel
theorem dX16_wellFormed_381 : decode cX16_wellFormed 381 = .ok (.if_icmp .ge 27, 3) := by decide +kernel
theorem dX16_wellFormed_384 : decode cX16_wellFormed 384 = .ok (.aload_n 0, 1) := by decide +kernel
theorem dX16_wellFormed_385 : decode cX16_wellFormed 385 = .ok (.getfield 742, 3) := by decide +kernel
theorem dX16_wellFormed_388 : decode cX16_wellFormed 388 = .ok (.bipush 50, 2) := by decide +kernel
theorem dX16_wellFormed_390 : decode cX16_wellFormed 390 = .ok (.iload_n 1, 1) := by decide +kernel
theorem dX16_wellFormed_391 : decode cX16_wellFormed 391 = .ok (.iadd, 1) := by decide +kernel
theorem dX16_wellFormed_392 : decode cX16_wellFormed 392 = .ok (.if_icmp .ne 16, 3) := by decide +kernel
theorem dX16_wellFormed_395 : decode cX16_wellFormed 395 = .ok (.aload_n 0, 1) := by decide +kernel
theorem dX16_wellFormed_396 : decode cX16_wellFormed 396 = .ok (.bipush 47, 2) := by decide +kernel
theorem dX16_wellFormed_398 : decode cX16_wellFormed 398 = .ok (.invokevirtual 755, 3) := by decide +kernel
theorem dX16_wellFormed_401 : decode cX16_wellFormed 401 = .ok (.ifCond .eq 7, 3) := by decide +kernel
theorem dX16_wellFormed_404 : decode cX16_wellFormed 404 = .ok (.iconst 1, 1) := by decide +kernel
theorem dX16_wellFormed_405 : decode cX16_wellFormed 405 = .ok (.goto 4, 3) := by decide +kernel
theorem dX16_wellFormed_408 : decode cX16_wellFormed 408 = .ok (.iconst 0, 1) := by decide +kernel
theorem dX16_wellFormed_409 : decode cX16_wellFormed 409 = .ok (.ireturn, 1) := by decide +kernel
theorem dX16_wellFormed_410 : decode cX16_wellFormed 410 = .ok (.aload_n 0, 1) := by decide +kernel
theorem dX16_wellFormed_411 : decode cX16_wellFormed 411 = .ok (.getfield 742, 3) := by decide +kernel
theorem dX16_wellFormed_414 : decode cX16_wellFormed 414 = .ok (.bipush 27, 2) := by decide +kernel
theorem dX16_wellFormed_416 : decode cX16_wellFormed 416 = .ok (.if_icmp .ge 8, 3) := by decide +kernel
theorem dX16_wellFormed_419 : decode cX16_wellFormed 419 = .ok (.bipush 99, 2) := by decide +kernel
theorem dX16_wellFormed_421 : decode cX16_wellFormed 421 = .ok (.goto 10, 3) := by decide +kernel
theorem dX16_wellFormed_424 : decode cX16_wellFormed 424 = .ok (.aload_n 0, 1) := by decide +kernel
theorem dX16_wellFormed_425 : decode cX16_wellFormed 425 = .ok (.getfield 361, 3) := by decide +kernel
theorem dX16_wellFormed_428 : decode cX16_wellFormed 428 = .ok (.bipush 26, 2) := by decide +kernel
theorem dX16_wellFormed_430 : decode cX16_wellFormed 430 = .ok (.iaload, 1) := by decide +kernel
theorem dX16_wellFormed_431 : decode cX16_wellFormed 431 = .ok (.istore_n 1, 1) := by decide +kernel
theorem dX16_wellFormed_432 : decode cX16_wellFormed 432 = .ok (.iload_n 1, 1) := by decide +kernel
theorem dX16_wellFormed_433 : decode cX16_wellFormed 433 = .ok (.bipush 31, 2) := by decide +kernel
theorem dX16_wellFormed_435 : decode cX16_wellFormed 435 = .ok (.if_icmp .ge 42, 3) := by decide +kernel
theorem dX16_wellFormed_438 : decode cX16_wellFormed 438 = .ok (.aload_n 0, 1) := by decide +kernel
theorem dX16_wellFormed_439 : decode cX16_wellFormed 439 = .ok (.getfield 742, 3) := by decide +kernel
theorem dX16_wellFormed_442 : decode cX16_wellFormed 442 = .ok (.bipush 27, 2) := by decide +kernel
theorem dX16_wellFormed_444 : decode cX16_wellFormed 444 = .ok (.iconst 3, 1) := by decide +kernel
theorem dX16_wellFormed_445 : decode cX16_wellFormed 445 = .ok (.iload_n 1, 1) := by decide +kernel
theorem dX16_wellFormed_446 : decode cX16_wellFormed 446 = .ok (.imul, 1) := by decide +kernel
theorem dX16_wellFormed_447 : decode cX16_wellFormed 447 = .ok (.iadd, 1) := by decide +kernel
theorem dX16_wellFormed_448 : decode cX16_wellFormed 448 = .ok (.if_icmp .ne 29, 3) := by decide +kernel
theorem dX16_wellFormed_451 : decode cX16_wellFormed 451 = .ok (.aload_n 0, 1) := by decide +kernel
theorem dX16_wellFormed_452 : decode cX16_wellFormed 452 = .ok (.getfield 361, 3) := by decide +kernel
theorem dX16_wellFormed_455 : decode cX16_wellFormed 455 = .ok (.bipush 25, 2) := by decide +kernel
theorem dX16_wellFormed_457 : decode cX16_wellFormed 457 = .ok (.iaload, 1) := by decide +kernel
theorem dX16_wellFormed_458 : decode cX16_wellFormed 458 = .ok (.iconst 2, 1) := by decide +kernel
theorem dX16_wellFormed_459 : decode cX16_wellFormed 459 = .ok (.if_icmp .ge 18, 3) := by decide +kernel
theorem dX16_wellFormed_462 : decode cX16_wellFormed 462 = .ok (.aload_n 0, 1) := by decide +kernel
theorem dX16_wellFormed_463 : decode cX16_wellFormed 463 = .ok (.bipush 27, 2) := by decide +kernel
theorem dX16_wellFormed_465 : decode cX16_wellFormed 465 = .ok (.iload_n 1, 1) := by decide +kernel
theorem dX16_wellFormed_466 : decode cX16_wellFormed 466 = .ok (.iconst 3, 1) := by decide +kernel
theorem dX16_wellFormed_467 : decode cX16_wellFormed 467 = .ok (.invokevirtual 748, 3) := by decide +kernel
theorem dX16_wellFormed_470 : decode cX16_wellFormed 470 = .ok (.ifCond .eq 7, 3) := by decide +kernel
theorem dX16_wellFormed_473 : decode cX16_wellFormed 473 = .ok (.iconst 1, 1) := by decide +kernel
theorem dX16_wellFormed_474 : decode cX16_wellFormed 474 = .ok (.goto 4, 3) := by decide +kernel
theorem dX16_wellFormed_477 : decode cX16_wellFormed 477 = .ok (.iconst 0, 1) := by decide +kernel
theorem dX16_wellFormed_478 : decode cX16_wellFormed 478 = .ok (.ireturn, 1) := by decide +kernel
theorem dX16_wellFormed_479 : decode cX16_wellFormed 479 = .ok (.aload_n 0, 1) := by decide +kernel
theorem dX16_wellFormed_480 : decode cX16_wellFormed 480 = .ok (.getfield 742, 3) := by decide +kernel
theorem dX16_wellFormed_483 : decode cX16_wellFormed 483 = .ok (.bipush 46, 2) := by decide +kernel
theorem dX16_wellFormed_485 : decode cX16_wellFormed 485 = .ok (.if_icmp .ge 8, 3) := by decide +kernel
theorem dX16_wellFormed_488 : decode cX16_wellFormed 488 = .ok (.bipush 99, 2) := by decide +kernel
theorem dX16_wellFormed_490 : decode cX16_wellFormed 490 = .ok (.goto 10, 3) := by decide +kernel
theorem dX16_wellFormed_493 : decode cX16_wellFormed 493 = .ok (.aload_n 0, 1) := by decide +kernel
theorem dX16_wellFormed_494 : decode cX16_wellFormed 494 = .ok (.getfield 361, 3) := by decide +kernel
theorem dX16_wellFormed_497 : decode cX16_wellFormed 497 = .ok (.bipush 45, 2) := by decide +kernel
theorem dX16_wellFormed_499 : decode cX16_wellFormed 499 = .ok (.iaload, 1) := by decide +kernel
theorem dX16_wellFormed_500 : decode cX16_wellFormed 500 = .ok (.istore_n 1, 1) := by decide +kernel
theorem dX16_wellFormed_501 : decode cX16_wellFormed 501 = .ok (.iload_n 1, 1) := by decide +kernel
theorem dX16_wellFormed_502 : decode cX16_wellFormed 502 = .ok (.ifCond .le 37, 3) := by decide +kernel
theorem dX16_wellFormed_505 : decode cX16_wellFormed 505 = .ok (.iload_n 1, 1) := by decide +kernel
theorem dX16_wellFormed_506 : decode cX16_wellFormed 506 = .ok (.bipush 31, 2) := by decide +kernel
theorem dX16_wellFormed_508 : decode cX16_wellFormed 508 = .ok (.if_icmp .ge 31, 3) := by decide +kernel
theorem dX16_wellFormed_511 : decode cX16_wellFormed 511 = .ok (.aload_n 0, 1) := by decide +kernel
theorem dX16_wellFormed_512 : decode cX16_wellFormed 512 = .ok (.getfield 742, 3) := by decide +kernel
theorem dX16_wellFormed_515 : decode cX16_wellFormed 515 = .ok (.bipush 46, 2) := by decide +kernel
theorem dX16_wellFormed_517 : decode cX16_wellFormed 517 = .ok (.iconst 2, 1) := by decide +kernel
theorem dX16_wellFormed_518 : decode cX16_wellFormed 518 = .ok (.iload_n 1, 1) := by decide +kernel
theorem dX16_wellFormed_519 : decode cX16_wellFormed 519 = .ok (.imul, 1) := by decide +kernel
theorem dX16_wellFormed_520 : decode cX16_wellFormed 520 = .ok (.iadd, 1) := by decide +kernel
theorem dX16_wellFormed_521 : decode cX16_wellFormed 521 = .ok (.if_icmp .ne 18, 3) := by decide +kernel
theorem dX16_wellFormed_524 : decode cX16_wellFormed 524 = .ok (.aload_n 0, 1) := by decide +kernel
theorem dX16_wellFormed_525 : decode cX16_wellFormed 525 = .ok (.bipush 46, 2) := by decide +kernel
theorem dX16_wellFormed_527 : decode cX16_wellFormed 527 = .ok (.iload_n 1, 1) := by decide +kernel
theorem dX16_wellFormed_528 : decode cX16_wellFormed 528 = .ok (.iconst 2, 1) := by decide +kernel
theorem dX16_wellFormed_529 : decode cX16_wellFormed 529 = .ok (.invokevirtual 748, 3) := by decide +kernel
theorem dX16_wellFormed_532 : decode cX16_wellFormed 532 = .ok (.ifCond .eq 7, 3) := by decide +kernel
theorem dX16_wellFormed_535 : decode cX16_wellFormed 535 = .ok (.iconst 1, 1) := by decide +kernel
theorem dX16_wellFormed_536 : decode cX16_wellFormed 536 = .ok (.goto 4, 3) := by decide +kernel
theorem dX16_wellFormed_539 : decode cX16_wellFormed 539 = .ok (.iconst 0, 1) := by decide +kernel
theorem dX16_wellFormed_540 : decode cX16_wellFormed 540 = .ok (.ireturn, 1) := by decide +kernel
theorem dX16_wellFormed_541 : decode cX16_wellFormed 541 = .ok (.aload_n 0, 1) := by decide +kernel
theorem dX16_wellFormed_542 : decode cX16_wellFormed 542 = .ok (.getfield 742, 3) := by decide +kernel
theorem dX16_wellFormed_545 : decode cX16_wellFormed 545 = .ok (.bipush 26, 2) := by decide +kernel
theorem dX16_wellFormed_547 : decode cX16_wellFormed 547 = .ok (.if_icmp .ge 8, 3) := by decide +kernel
theorem dX16_wellFormed_550 : decode cX16_wellFormed 550 = .ok (.bipush 99, 2) := by decide +kernel
theorem dX16_wellFormed_552 : decode cX16_wellFormed 552 = .ok (.goto 10, 3) := by decide +kernel
theorem dX16_wellFormed_555 : decode cX16_wellFormed 555 = .ok (.aload_n 0, 1) := by decide +kernel
theorem dX16_wellFormed_556 : decode cX16_wellFormed 556 = .ok (.getfield 361, 3) := by decide +kernel
theorem dX16_wellFormed_559 : decode cX16_wellFormed 559 = .ok (.bipush 25, 2) := by decide +kernel
theorem dX16_wellFormed_561 : decode cX16_wellFormed 561 = .ok (.iaload, 1) := by decide +kernel
theorem dX16_wellFormed_562 : decode cX16_wellFormed 562 = .ok (.istore_n 1, 1) := by decide +kernel
theorem dX16_wellFormed_563 : decode cX16_wellFormed 563 = .ok (.iload_n 1, 1) := by decide +kernel
theorem dX16_wellFormed_564 : decode cX16_wellFormed 564 = .ok (.bipush 31, 2) := by decide +kernel
theorem dX16_wellFormed_566 : decode cX16_wellFormed 566 = .ok (.if_icmp .ge 31, 3) := by decide +kernel
theorem dX16_wellFormed_569 : decode cX16_wellFormed 569 = .ok (.aload_n 0, 1) := by decide +kernel
theorem dX16_wellFormed_570 : decode cX16_wellFormed 570 = .ok (.getfield 742, 3) := by decide +kernel
theorem dX16_wellFormed_573 : decode cX16_wellFormed 573 = .ok (.bipush 26, 2) := by decide +kernel
theorem dX16_wellFormed_575 : decode cX16_wellFormed 575 = .ok (.iconst 3, 1) := by decide +kernel
theorem dX16_wellFormed_576 : decode cX16_wellFormed 576 = .ok (.iload_n 1, 1) := by decide +kernel
theorem dX16_wellFormed_577 : decode cX16_wellFormed 577 = .ok (.imul, 1) := by decide +kernel
theorem dX16_wellFormed_578 : decode cX16_wellFormed 578 = .ok (.iadd, 1) := by decide +kernel
theorem dX16_wellFormed_579 : decode cX16_wellFormed 579 = .ok (.if_icmp .ne 18, 3) := by decide +kernel
theorem dX16_wellFormed_582 : decode cX16_wellFormed 582 = .ok (.aload_n 0, 1) := by decide +kernel
theorem dX16_wellFormed_583 : decode cX16_wellFormed 583 = .ok (.bipush 26, 2) := by decide +kernel
theorem dX16_wellFormed_585 : decode cX16_wellFormed 585 = .ok (.iload_n 1, 1) := by decide +kernel
theorem dX16_wellFormed_586 : decode cX16_wellFormed 586 = .ok (.iconst 3, 1) := by decide +kernel
theorem dX16_wellFormed_587 : decode cX16_wellFormed 587 = .ok (.invokevirtual 748, 3) := by decide +kernel
theorem dX16_wellFormed_590 : decode cX16_wellFormed 590 = .ok (.ifCond .eq 7, 3) := by decide +kernel
theorem dX16_wellFormed_593 : decode cX16_wellFormed 593 = .ok (.iconst 1, 1) := by decide +kernel
theorem dX16_wellFormed_594 : decode cX16_wellFormed 594 = .ok (.goto 4, 3) := by decide +kernel
theorem dX16_wellFormed_597 : decode cX16_wellFormed 597 = .ok (.iconst 0, 1) := by decide +kernel
theorem dX16_wellFormed_598 : decode cX16_wellFormed 598 = .ok (.ireturn, 1) := by decide +kernel
theorem dX16_wellFormed_599 : decode cX16_wellFormed 599 = .ok (.iconst 0, 1) := by decide +kernel
theorem dX16_wellFormed_600 : decode cX16_wellFormed 600 = .ok (.ireturn, 1) := by decide +kernel
def j_X16_wellFormed_598 (y0 : Int) (V : VV) : Option (Int) :=
  bz y0 (some y0)
def j_X16_wellFormed_597 (V : VV) : Option (Int) :=
  j_X16_wellFormed_598 0 V
def j_X16_wellFormed_562 (y0 : Int) (V : VV) : Option (Int) :=
  if w32 y0 < w32 31 then
    if w32 (w32 (V 156 138)) = w32 (26 + (3 * y0)) then
      (f_X16_areRows 26 y0 3 V).bind fun v1 =>
      if w32 v1 = 0 then
        j_X16_wellFormed_597 V
      else
        j_X16_wellFormed_598 1 V
    else
      j_X16_wellFormed_597 V
  else
    j_X16_wellFormed_597 V
def j_X16_wellFormed_540 (y0 : Int) (V : VV) : Option (Int) :=
  bz y0 (some y0)
def j_X16_wellFormed_539 (V : VV) : Option (Int) :=
  j_X16_wellFormed_540 0 V
def j_X16_wellFormed_500 (y0 : Int) (V : VV) : Option (Int) :=
  if 0 < w32 y0 then
    if w32 y0 < w32 31 then
      if w32 (w32 (V 156 138)) = w32 (46 + (2 * y0)) then
        (f_X16_areRows 46 y0 2 V).bind fun v1 =>
        if w32 v1 = 0 then
          j_X16_wellFormed_539 V
        else
          j_X16_wellFormed_540 1 V
      else
        j_X16_wellFormed_539 V
    else
      j_X16_wellFormed_539 V
  else
    j_X16_wellFormed_539 V
def j_X16_wellFormed_478 (y0 : Int) (V : VV) : Option (Int) :=
  bz y0 (some y0)
def j_X16_wellFormed_477 (V : VV) : Option (Int) :=
  j_X16_wellFormed_478 0 V
def j_X16_wellFormed_431 (y0 : Int) (V : VV) : Option (Int) :=
  if w32 y0 < w32 31 then
    if w32 (w32 (V 156 138)) = w32 (27 + (3 * y0)) then
      (l2 271 460 25 V).bind fun v1 =>
      if w32 v1 < w32 2 then
        (f_X16_areRows 27 y0 3 V).bind fun v2 =>
        if w32 v2 = 0 then
          j_X16_wellFormed_477 V
        else
          j_X16_wellFormed_478 1 V
      else
        j_X16_wellFormed_477 V
    else
      j_X16_wellFormed_477 V
  else
    j_X16_wellFormed_477 V
def j_X16_wellFormed_409 (y0 : Int) (V : VV) : Option (Int) :=
  bz y0 (some y0)
def j_X16_wellFormed_408 (V : VV) : Option (Int) :=
  j_X16_wellFormed_409 0 V
def j_X16_wellFormed_376 (y0 : Int) (V : VV) : Option (Int) :=
  if w32 y0 < w32 291 then
    if w32 (w32 (V 156 138)) = w32 (50 + y0) then
      (f_X16_isHashes 47 V).bind fun v1 =>
      if w32 v1 = 0 then
        j_X16_wellFormed_408 V
      else
        j_X16_wellFormed_409 1 V
    else
      j_X16_wellFormed_408 V
  else
    j_X16_wellFormed_408 V
def j_X16_wellFormed_354 (y0 : Int) (V : VV) : Option (Int) :=
  bz y0 (some y0)
def j_X16_wellFormed_353 (V : VV) : Option (Int) :=
  j_X16_wellFormed_354 0 V
def j_X16_wellFormed_321 (y0 : Int) (V : VV) : Option (Int) :=
  if w32 y0 < w32 291 then
    if w32 (w32 (V 156 138)) = w32 (30 + y0) then
      (f_X16_isHashes 27 V).bind fun v1 =>
      if w32 v1 = 0 then
        j_X16_wellFormed_353 V
      else
        j_X16_wellFormed_354 1 V
    else
      j_X16_wellFormed_353 V
  else
    j_X16_wellFormed_353 V
def j_X16_wellFormed_299 (y0 : Int) (V : VV) : Option (Int) :=
  bz y0 (some y0)
def j_X16_wellFormed_298 (V : VV) : Option (Int) :=
  j_X16_wellFormed_299 0 V
def j_X16_wellFormed_259 (y0 : Int) (V : VV) : Option (Int) :=
  if 0 < w32 y0 then
    if w32 y0 < w32 17 then
      if w32 (w32 (V 156 138)) = w32 (46 + (3 * y0)) then
        (f_X16_areRows 46 y0 3 V).bind fun v1 =>
        if w32 v1 = 0 then
          j_X16_wellFormed_298 V
        else
          j_X16_wellFormed_299 1 V
      else
        j_X16_wellFormed_298 V
    else
      j_X16_wellFormed_298 V
  else
    j_X16_wellFormed_298 V
def j_X16_wellFormed_237 (y0 : Int) (V : VV) : Option (Int) :=
  bz y0 (some y0)
def j_X16_wellFormed_236 (V : VV) : Option (Int) :=
  j_X16_wellFormed_237 0 V
def j_X16_wellFormed_201 (y0 : Int) (V : VV) : Option (Int) :=
  if w32 y0 < w32 21 then
    if w32 (w32 (V 156 138)) = w32 (28 + (21 * y0)) then
      (f_X16_areNodes 28 y0 V).bind fun v1 =>
      if w32 v1 = 0 then
        j_X16_wellFormed_236 V
      else
        j_X16_wellFormed_237 1 V
    else
      j_X16_wellFormed_236 V
  else
    j_X16_wellFormed_236 V
def j_X16_wellFormed_179 (y0 : Int) (V : VV) : Option (Int) :=
  bz y0 (some y0)
def j_X16_wellFormed_178 (V : VV) : Option (Int) :=
  j_X16_wellFormed_179 0 V
def j_X16_wellFormed_143 (y0 : Int) (V : VV) : Option (Int) :=
  if w32 y0 < w32 21 then
    if w32 (w32 (V 156 138)) = w32 (26 + (21 * y0)) then
      (f_X16_areNodes 26 y0 V).bind fun v1 =>
      if w32 v1 = 0 then
        j_X16_wellFormed_178 V
      else
        j_X16_wellFormed_179 1 V
    else
      j_X16_wellFormed_178 V
  else
    j_X16_wellFormed_178 V
def j_X16_wellFormed_121 (y0 : Int) (V : VV) : Option (Int) :=
  bz y0 (some y0)
def j_X16_wellFormed_106 (y0 : Int) (V : VV) : Option (Int) :=
  bz y0 (some y0)
def f_X16_wellFormed (V : VV) : Option (Int) :=
  if w32 (w32 (V 156 138)) < w32 25 then
    some 0
  else
    (l2 271 460 0 V).bind fun v1 =>
    swt (w32 v1) 1 [
      (
      if w32 (w32 (V 156 138)) = w32 25 then
        j_X16_wellFormed_106 1 V
      else
        j_X16_wellFormed_106 0 V
      ),
      (
      if w32 (w32 (V 156 138)) = w32 25 then
        j_X16_wellFormed_106 1 V
      else
        j_X16_wellFormed_106 0 V
      ),
      (
      if w32 (w32 (V 156 138)) = w32 45 then
        j_X16_wellFormed_121 1 V
      else
        j_X16_wellFormed_121 0 V
      ),
      (
      if w32 (w32 (V 156 138)) < w32 26 then
        j_X16_wellFormed_143 99 V
      else
        (l2 271 460 25 V).bind fun v2 =>
        j_X16_wellFormed_143 v2 V
      ),
      (
      if w32 (w32 (V 156 138)) = w32 45 then
        j_X16_wellFormed_121 1 V
      else
        j_X16_wellFormed_121 0 V
      ),
      (
      if w32 (w32 (V 156 138)) < w32 28 then
        j_X16_wellFormed_201 99 V
      else
        (l2 271 460 27 V).bind fun v3 =>
        j_X16_wellFormed_201 v3 V
      ),
      (
      if w32 (w32 (V 156 138)) < w32 46 then
        j_X16_wellFormed_259 99 V
      else
        (l2 271 460 45 V).bind fun v4 =>
        j_X16_wellFormed_259 v4 V
      ),
      (
      if w32 (w32 (V 156 138)) = w32 25 then
        j_X16_wellFormed_106 1 V
      else
        j_X16_wellFormed_106 0 V
      ),
      (
      if w32 (w32 (V 156 138)) = w32 45 then
        j_X16_wellFormed_121 1 V
      else
        j_X16_wellFormed_121 0 V
      ),
      (
      if w32 (w32 (V 156 138)) < w32 30 then
        j_X16_wellFormed_321 999 V
      else
        (f_X16_pairAt 28 V).bind fun v5 =>
        j_X16_wellFormed_321 v5 V
      ),
      (
      if w32 (w32 (V 156 138)) < w32 50 then
        j_X16_wellFormed_376 999 V
      else
        (f_X16_pairAt 48 V).bind fun v6 =>
        j_X16_wellFormed_376 v6 V
      ),
      (
      if w32 (w32 (V 156 138)) < w32 27 then
        j_X16_wellFormed_431 99 V
      else
        (l2 271 460 26 V).bind fun v7 =>
        j_X16_wellFormed_431 v7 V
      ),
      (
      if w32 (w32 (V 156 138)) < w32 46 then
        j_X16_wellFormed_500 99 V
      else
        (l2 271 460 45 V).bind fun v8 =>
        j_X16_wellFormed_500 v8 V
      ),
      (
      if w32 (w32 (V 156 138)) < w32 26 then
        j_X16_wellFormed_562 99 V
      else
        (l2 271 460 25 V).bind fun v9 =>
        j_X16_wellFormed_562 v9 V
      ),
      (
      if w32 (w32 (V 156 138)) = w32 25 then
        j_X16_wellFormed_106 1 V
      else
        j_X16_wellFormed_106 0 V
      )
      ] (
      some 0
      )
theorem s_X16_wellFormed_598 {g : GG} {d : Nat} (hD : 1 ≤ d) {y0 : Int} {M : MM} (hM : LM M) {V : VV} {o : AV × MM} {P : (Int) → Prop} (r0 : ∀ r : Int, P r → o = ((0, r), (wr M V))) {z : Int} (h : j_X16_wellFormed_598 y0 V = some z) (hz : P z) : Sem g d YX16_wellFormed 598 [(9, 0), (9, 0)] [(0, y0)] (wr M V) o := by
  delta j_X16_wellFormed_598 at h
  obtain ⟨hb, h⟩ := bz_some h
  obtain rfl := r0 _ (some_P (P := fun r => P r) h hz)
  exact P_ret dX16_wellFormed_598 rfl (Or.inr ⟨rfl, hb⟩)
theorem s_X16_wellFormed_597 {g : GG} {d : Nat} (hD : 1 ≤ d) {M : MM} (hM : LM M) {V : VV} {o : AV × MM} {P : (Int) → Prop} (r0 : ∀ r : Int, P r → o = ((0, r), (wr M V))) {z : Int} (h : j_X16_wellFormed_597 V = some z) (hz : P z) : Sem g d YX16_wellFormed 597 [(9, 0), (9, 0)] [] (wr M V) o := by
  delta j_X16_wellFormed_597 at h
  refine S_iconst dX16_wellFormed_597 rfl ?_
  exact s_X16_wellFormed_598 hD hM r0 h hz
theorem s_X16_wellFormed_562 {g : GG} {d : Nat} (hD : 1 ≤ d) {y0 : Int} {M : MM} (hM : LM M) {V : VV} {o : AV × MM} {P : (Int) → Prop} (r0 : ∀ r : Int, P r → o = ((0, r), (wr M V))) {z : Int} (h : j_X16_wellFormed_562 y0 V = some z) (hz : P z) : Sem g d YX16_wellFormed 562 [(1, 156), (9, 0)] [(0, y0)] (wr M V) o := by
  delta j_X16_wellFormed_562 at h
  refine S_istore_n (i := 1) dX16_wellFormed_562 rfl (Nat.le_of_ble_eq_true rfl) rfl rfl ?_
  change Sem g d YX16_wellFormed 563 [(1, 156), (0, y0)] [] (wr M V) o
  refine S_iload_n (i := 1) dX16_wellFormed_563 rfl rfl ?_
  refine S_bipush (z := 31) dX16_wellFormed_564 rfl ?_
  refine P_icmp_ge (tgt := 597) dX16_wellFormed_566 rfl h (fun h => ?_) (fun h => ?_)
  · refine S_weak (ls' := [(9, 0), (9, 0)]) ⟨Or.inl rfl, ⟨Or.inl rfl, trivial⟩⟩ ?_
    exact s_X16_wellFormed_597 hD hM r0 h hz
  · refine S_aload_n (i := 0) dX16_wellFormed_569 rfl rfl ?_
    refine P2_gfi hM FLX16_742 rfl dX16_wellFormed_570 ?_
    refine S_bipush (z := 26) dX16_wellFormed_573 rfl ?_
    refine S_iconst dX16_wellFormed_575 rfl ?_
    refine S_iload_n (i := 1) dX16_wellFormed_576 rfl rfl ?_
    refine S_imul dX16_wellFormed_577 ?_
    refine S_iadd dX16_wellFormed_578 ?_
    refine P_icmp_ne (tgt := 597) dX16_wellFormed_579 rfl h (fun h => ?_) (fun h => ?_)
    · refine S_weak (ls' := [(9, 0), (9, 0)]) ⟨Or.inl rfl, ⟨Or.inl rfl, trivial⟩⟩ ?_
      exact s_X16_wellFormed_597 hD hM r0 h hz
    · refine S_aload_n (i := 0) dX16_wellFormed_582 rfl rfl ?_
      refine S_bipush (z := 26) dX16_wellFormed_583 rfl ?_
      refine S_iload_n (i := 1) dX16_wellFormed_585 rfl rfl ?_
      refine S_iconst dX16_wellFormed_586 rfl ?_
      refine P2_invVp hM 0 [(0, 26), (0, y0), (0, 3)] [] CVX16_areRows MLX16_748 dX16_wellFormed_587 rfl rfl rfl rfl rfl (by omega) h (fun r h => F_X16_areRows (by omega) hM h) (fun v1 h => ?_)
      refine P_if_eq (tgt := 597) dX16_wellFormed_590 rfl h (fun h => ?_) (fun h => ?_)
      · refine S_weak (ls' := [(9, 0), (9, 0)]) ⟨Or.inl rfl, ⟨Or.inl rfl, trivial⟩⟩ ?_
        exact s_X16_wellFormed_597 hD hM r0 h hz
      · refine S_iconst dX16_wellFormed_593 rfl ?_
        refine S_goto (tgt := 598) dX16_wellFormed_594 rfl ?_
        refine S_weak (ls' := [(9, 0), (9, 0)]) ⟨Or.inl rfl, ⟨Or.inl rfl, trivial⟩⟩ ?_
        exact s_X16_wellFormed_598 hD hM r0 h hz
theorem s_X16_wellFormed_540 {g : GG} {d : Nat} (hD : 1 ≤ d) {y0 : Int} {M : MM} (hM : LM M) {V : VV} {o : AV × MM} {P : (Int) → Prop} (r0 : ∀ r : Int, P r → o = ((0, r), (wr M V))) {z : Int} (h : j_X16_wellFormed_540 y0 V = some z) (hz : P z) : Sem g d YX16_wellFormed 540 [(9, 0), (9, 0)] [(0, y0)] (wr M V) o := by
  delta j_X16_wellFormed_540 at h
  obtain ⟨hb, h⟩ := bz_some h
  obtain rfl := r0 _ (some_P (P := fun r => P r) h hz)
  exact P_ret dX16_wellFormed_540 rfl (Or.inr ⟨rfl, hb⟩)
theorem s_X16_wellFormed_539 {g : GG} {d : Nat} (hD : 1 ≤ d) {M : MM} (hM : LM M) {V : VV} {o : AV × MM} {P : (Int) → Prop} (r0 : ∀ r : Int, P r → o = ((0, r), (wr M V))) {z : Int} (h : j_X16_wellFormed_539 V = some z) (hz : P z) : Sem g d YX16_wellFormed 539 [(9, 0), (9, 0)] [] (wr M V) o := by
  delta j_X16_wellFormed_539 at h
  refine S_iconst dX16_wellFormed_539 rfl ?_
  exact s_X16_wellFormed_540 hD hM r0 h hz
theorem s_X16_wellFormed_500 {g : GG} {d : Nat} (hD : 1 ≤ d) {y0 : Int} {M : MM} (hM : LM M) {V : VV} {o : AV × MM} {P : (Int) → Prop} (r0 : ∀ r : Int, P r → o = ((0, r), (wr M V))) {z : Int} (h : j_X16_wellFormed_500 y0 V = some z) (hz : P z) : Sem g d YX16_wellFormed 500 [(1, 156), (9, 0)] [(0, y0)] (wr M V) o := by
  delta j_X16_wellFormed_500 at h
  refine S_istore_n (i := 1) dX16_wellFormed_500 rfl (Nat.le_of_ble_eq_true rfl) rfl rfl ?_
  change Sem g d YX16_wellFormed 501 [(1, 156), (0, y0)] [] (wr M V) o
  refine S_iload_n (i := 1) dX16_wellFormed_501 rfl rfl ?_
  refine P_if_le (tgt := 539) dX16_wellFormed_502 rfl h (fun h => ?_) (fun h => ?_)
  · refine S_weak (ls' := [(9, 0), (9, 0)]) ⟨Or.inl rfl, ⟨Or.inl rfl, trivial⟩⟩ ?_
    exact s_X16_wellFormed_539 hD hM r0 h hz
  · refine S_iload_n (i := 1) dX16_wellFormed_505 rfl rfl ?_
    refine S_bipush (z := 31) dX16_wellFormed_506 rfl ?_
    refine P_icmp_ge (tgt := 539) dX16_wellFormed_508 rfl h (fun h => ?_) (fun h => ?_)
    · refine S_weak (ls' := [(9, 0), (9, 0)]) ⟨Or.inl rfl, ⟨Or.inl rfl, trivial⟩⟩ ?_
      exact s_X16_wellFormed_539 hD hM r0 h hz
    · refine S_aload_n (i := 0) dX16_wellFormed_511 rfl rfl ?_
      refine P2_gfi hM FLX16_742 rfl dX16_wellFormed_512 ?_
      refine S_bipush (z := 46) dX16_wellFormed_515 rfl ?_
      refine S_iconst dX16_wellFormed_517 rfl ?_
      refine S_iload_n (i := 1) dX16_wellFormed_518 rfl rfl ?_
      refine S_imul dX16_wellFormed_519 ?_
      refine S_iadd dX16_wellFormed_520 ?_
      refine P_icmp_ne (tgt := 539) dX16_wellFormed_521 rfl h (fun h => ?_) (fun h => ?_)
      · refine S_weak (ls' := [(9, 0), (9, 0)]) ⟨Or.inl rfl, ⟨Or.inl rfl, trivial⟩⟩ ?_
        exact s_X16_wellFormed_539 hD hM r0 h hz
      · refine S_aload_n (i := 0) dX16_wellFormed_524 rfl rfl ?_
        refine S_bipush (z := 46) dX16_wellFormed_525 rfl ?_
        refine S_iload_n (i := 1) dX16_wellFormed_527 rfl rfl ?_
        refine S_iconst dX16_wellFormed_528 rfl ?_
        refine P2_invVp hM 0 [(0, 46), (0, y0), (0, 2)] [] CVX16_areRows MLX16_748 dX16_wellFormed_529 rfl rfl rfl rfl rfl (by omega) h (fun r h => F_X16_areRows (by omega) hM h) (fun v1 h => ?_)
        refine P_if_eq (tgt := 539) dX16_wellFormed_532 rfl h (fun h => ?_) (fun h => ?_)
        · refine S_weak (ls' := [(9, 0), (9, 0)]) ⟨Or.inl rfl, ⟨Or.inl rfl, trivial⟩⟩ ?_
          exact s_X16_wellFormed_539 hD hM r0 h hz
        · refine S_iconst dX16_wellFormed_535 rfl ?_
          refine S_goto (tgt := 540) dX16_wellFormed_536 rfl ?_
          refine S_weak (ls' := [(9, 0), (9, 0)]) ⟨Or.inl rfl, ⟨Or.inl rfl, trivial⟩⟩ ?_
          exact s_X16_wellFormed_540 hD hM r0 h hz
theorem s_X16_wellFormed_478 {g : GG} {d : Nat} (hD : 1 ≤ d) {y0 : Int} {M : MM} (hM : LM M) {V : VV} {o : AV × MM} {P : (Int) → Prop} (r0 : ∀ r : Int, P r → o = ((0, r), (wr M V))) {z : Int} (h : j_X16_wellFormed_478 y0 V = some z) (hz : P z) : Sem g d YX16_wellFormed 478 [(9, 0), (9, 0)] [(0, y0)] (wr M V) o := by
  delta j_X16_wellFormed_478 at h
  obtain ⟨hb, h⟩ := bz_some h
  obtain rfl := r0 _ (some_P (P := fun r => P r) h hz)
  exact P_ret dX16_wellFormed_478 rfl (Or.inr ⟨rfl, hb⟩)
theorem s_X16_wellFormed_477 {g : GG} {d : Nat} (hD : 1 ≤ d) {M : MM} (hM : LM M) {V : VV} {o : AV × MM} {P : (Int) → Prop} (r0 : ∀ r : Int, P r → o = ((0, r), (wr M V))) {z : Int} (h : j_X16_wellFormed_477 V = some z) (hz : P z) : Sem g d YX16_wellFormed 477 [(9, 0), (9, 0)] [] (wr M V) o := by
  delta j_X16_wellFormed_477 at h
  refine S_iconst dX16_wellFormed_477 rfl ?_
  exact s_X16_wellFormed_478 hD hM r0 h hz
theorem s_X16_wellFormed_431 {g : GG} {d : Nat} (hD : 1 ≤ d) {y0 : Int} {M : MM} (hM : LM M) {V : VV} {o : AV × MM} {P : (Int) → Prop} (r0 : ∀ r : Int, P r → o = ((0, r), (wr M V))) {z : Int} (h : j_X16_wellFormed_431 y0 V = some z) (hz : P z) : Sem g d YX16_wellFormed 431 [(1, 156), (9, 0)] [(0, y0)] (wr M V) o := by
  delta j_X16_wellFormed_431 at h
  refine S_istore_n (i := 1) dX16_wellFormed_431 rfl (Nat.le_of_ble_eq_true rfl) rfl rfl ?_
  change Sem g d YX16_wellFormed 432 [(1, 156), (0, y0)] [] (wr M V) o
  refine S_iload_n (i := 1) dX16_wellFormed_432 rfl rfl ?_
  refine S_bipush (z := 31) dX16_wellFormed_433 rfl ?_
  refine P_icmp_ge (tgt := 477) dX16_wellFormed_435 rfl h (fun h => ?_) (fun h => ?_)
  · refine S_weak (ls' := [(9, 0), (9, 0)]) ⟨Or.inl rfl, ⟨Or.inl rfl, trivial⟩⟩ ?_
    exact s_X16_wellFormed_477 hD hM r0 h hz
  · refine S_aload_n (i := 0) dX16_wellFormed_438 rfl rfl ?_
    refine P2_gfi hM FLX16_742 rfl dX16_wellFormed_439 ?_
    refine S_bipush (z := 27) dX16_wellFormed_442 rfl ?_
    refine S_iconst dX16_wellFormed_444 rfl ?_
    refine S_iload_n (i := 1) dX16_wellFormed_445 rfl rfl ?_
    refine S_imul dX16_wellFormed_446 ?_
    refine S_iadd dX16_wellFormed_447 ?_
    refine P_icmp_ne (tgt := 477) dX16_wellFormed_448 rfl h (fun h => ?_) (fun h => ?_)
    · refine S_weak (ls' := [(9, 0), (9, 0)]) ⟨Or.inl rfl, ⟨Or.inl rfl, trivial⟩⟩ ?_
      exact s_X16_wellFormed_477 hD hM r0 h hz
    · refine S_aload_n (i := 0) dX16_wellFormed_451 rfl rfl ?_
      refine P2_gfr hM (a := 271) FLX16_361 rfl ⟨rfl, rfl⟩ dX16_wellFormed_452 ?_
      refine S_bipush (z := 25) dX16_wellFormed_455 rfl ?_
      refine P2_lai hM (a := 271) (n := 460) rfl dX16_wellFormed_457 h (fun v1 h => ?_)
      refine S_iconst dX16_wellFormed_458 rfl ?_
      refine P_icmp_ge (tgt := 477) dX16_wellFormed_459 rfl h (fun h => ?_) (fun h => ?_)
      · refine S_weak (ls' := [(9, 0), (9, 0)]) ⟨Or.inl rfl, ⟨Or.inl rfl, trivial⟩⟩ ?_
        exact s_X16_wellFormed_477 hD hM r0 h hz
      · refine S_aload_n (i := 0) dX16_wellFormed_462 rfl rfl ?_
        refine S_bipush (z := 27) dX16_wellFormed_463 rfl ?_
        refine S_iload_n (i := 1) dX16_wellFormed_465 rfl rfl ?_
        refine S_iconst dX16_wellFormed_466 rfl ?_
        refine P2_invVp hM 0 [(0, 27), (0, y0), (0, 3)] [] CVX16_areRows MLX16_748 dX16_wellFormed_467 rfl rfl rfl rfl rfl (by omega) h (fun r h => F_X16_areRows (by omega) hM h) (fun v2 h => ?_)
        refine P_if_eq (tgt := 477) dX16_wellFormed_470 rfl h (fun h => ?_) (fun h => ?_)
        · refine S_weak (ls' := [(9, 0), (9, 0)]) ⟨Or.inl rfl, ⟨Or.inl rfl, trivial⟩⟩ ?_
          exact s_X16_wellFormed_477 hD hM r0 h hz
        · refine S_iconst dX16_wellFormed_473 rfl ?_
          refine S_goto (tgt := 478) dX16_wellFormed_474 rfl ?_
          refine S_weak (ls' := [(9, 0), (9, 0)]) ⟨Or.inl rfl, ⟨Or.inl rfl, trivial⟩⟩ ?_
          exact s_X16_wellFormed_478 hD hM r0 h hz
theorem s_X16_wellFormed_409 {g : GG} {d : Nat} (hD : 1 ≤ d) {y0 : Int} {M : MM} (hM : LM M) {V : VV} {o : AV × MM} {P : (Int) → Prop} (r0 : ∀ r : Int, P r → o = ((0, r), (wr M V))) {z : Int} (h : j_X16_wellFormed_409 y0 V = some z) (hz : P z) : Sem g d YX16_wellFormed 409 [(9, 0), (9, 0)] [(0, y0)] (wr M V) o := by
  delta j_X16_wellFormed_409 at h
  obtain ⟨hb, h⟩ := bz_some h
  obtain rfl := r0 _ (some_P (P := fun r => P r) h hz)
  exact P_ret dX16_wellFormed_409 rfl (Or.inr ⟨rfl, hb⟩)
theorem s_X16_wellFormed_408 {g : GG} {d : Nat} (hD : 1 ≤ d) {M : MM} (hM : LM M) {V : VV} {o : AV × MM} {P : (Int) → Prop} (r0 : ∀ r : Int, P r → o = ((0, r), (wr M V))) {z : Int} (h : j_X16_wellFormed_408 V = some z) (hz : P z) : Sem g d YX16_wellFormed 408 [(9, 0), (9, 0)] [] (wr M V) o := by
  delta j_X16_wellFormed_408 at h
  refine S_iconst dX16_wellFormed_408 rfl ?_
  exact s_X16_wellFormed_409 hD hM r0 h hz
theorem s_X16_wellFormed_376 {g : GG} {d : Nat} (hD : 1 ≤ d) {y0 : Int} {M : MM} (hM : LM M) {V : VV} {o : AV × MM} {P : (Int) → Prop} (r0 : ∀ r : Int, P r → o = ((0, r), (wr M V))) {z : Int} (h : j_X16_wellFormed_376 y0 V = some z) (hz : P z) : Sem g d YX16_wellFormed 376 [(1, 156), (9, 0)] [(0, y0)] (wr M V) o := by
  delta j_X16_wellFormed_376 at h
  refine S_istore_n (i := 1) dX16_wellFormed_376 rfl (Nat.le_of_ble_eq_true rfl) rfl rfl ?_
  change Sem g d YX16_wellFormed 377 [(1, 156), (0, y0)] [] (wr M V) o
  refine S_iload_n (i := 1) dX16_wellFormed_377 rfl rfl ?_
  refine S_sipush (z := 291) dX16_wellFormed_378 rfl ?_
  refine P_icmp_ge (tgt := 408) dX16_wellFormed_381 rfl h (fun h => ?_) (fun h => ?_)
  · refine S_weak (ls' := [(9, 0), (9, 0)]) ⟨Or.inl rfl, ⟨Or.inl rfl, trivial⟩⟩ ?_
    exact s_X16_wellFormed_408 hD hM r0 h hz
  · refine S_aload_n (i := 0) dX16_wellFormed_384 rfl rfl ?_
    refine P2_gfi hM FLX16_742 rfl dX16_wellFormed_385 ?_
    refine S_bipush (z := 50) dX16_wellFormed_388 rfl ?_
    refine S_iload_n (i := 1) dX16_wellFormed_390 rfl rfl ?_
    refine S_iadd dX16_wellFormed_391 ?_
    refine P_icmp_ne (tgt := 408) dX16_wellFormed_392 rfl h (fun h => ?_) (fun h => ?_)
    · refine S_weak (ls' := [(9, 0), (9, 0)]) ⟨Or.inl rfl, ⟨Or.inl rfl, trivial⟩⟩ ?_
      exact s_X16_wellFormed_408 hD hM r0 h hz
    · refine S_aload_n (i := 0) dX16_wellFormed_395 rfl rfl ?_
      refine S_bipush (z := 47) dX16_wellFormed_396 rfl ?_
      refine P2_invVp hM 0 [(0, 47)] [] CVX16_isHashes MLX16_755 dX16_wellFormed_398 rfl rfl rfl rfl rfl (by omega) h (fun r h => F_X16_isHashes (by omega) hM h) (fun v1 h => ?_)
      refine P_if_eq (tgt := 408) dX16_wellFormed_401 rfl h (fun h => ?_) (fun h => ?_)
      · refine S_weak (ls' := [(9, 0), (9, 0)]) ⟨Or.inl rfl, ⟨Or.inl rfl, trivial⟩⟩ ?_
        exact s_X16_wellFormed_408 hD hM r0 h hz
      · refine S_iconst dX16_wellFormed_404 rfl ?_
        refine S_goto (tgt := 409) dX16_wellFormed_405 rfl ?_
        refine S_weak (ls' := [(9, 0), (9, 0)]) ⟨Or.inl rfl, ⟨Or.inl rfl, trivial⟩⟩ ?_
        exact s_X16_wellFormed_409 hD hM r0 h hz
theorem s_X16_wellFormed_354 {g : GG} {d : Nat} (hD : 1 ≤ d) {y0 : Int} {M : MM} (hM : LM M) {V : VV} {o : AV × MM} {P : (Int) → Prop} (r0 : ∀ r : Int, P r → o = ((0, r), (wr M V))) {z : Int} (h : j_X16_wellFormed_354 y0 V = some z) (hz : P z) : Sem g d YX16_wellFormed 354 [(9, 0), (9, 0)] [(0, y0)] (wr M V) o := by
  delta j_X16_wellFormed_354 at h
  obtain ⟨hb, h⟩ := bz_some h
  obtain rfl := r0 _ (some_P (P := fun r => P r) h hz)
  exact P_ret dX16_wellFormed_354 rfl (Or.inr ⟨rfl, hb⟩)
theorem s_X16_wellFormed_353 {g : GG} {d : Nat} (hD : 1 ≤ d) {M : MM} (hM : LM M) {V : VV} {o : AV × MM} {P : (Int) → Prop} (r0 : ∀ r : Int, P r → o = ((0, r), (wr M V))) {z : Int} (h : j_X16_wellFormed_353 V = some z) (hz : P z) : Sem g d YX16_wellFormed 353 [(9, 0), (9, 0)] [] (wr M V) o := by
  delta j_X16_wellFormed_353 at h
  refine S_iconst dX16_wellFormed_353 rfl ?_
  exact s_X16_wellFormed_354 hD hM r0 h hz
theorem s_X16_wellFormed_321 {g : GG} {d : Nat} (hD : 1 ≤ d) {y0 : Int} {M : MM} (hM : LM M) {V : VV} {o : AV × MM} {P : (Int) → Prop} (r0 : ∀ r : Int, P r → o = ((0, r), (wr M V))) {z : Int} (h : j_X16_wellFormed_321 y0 V = some z) (hz : P z) : Sem g d YX16_wellFormed 321 [(1, 156), (9, 0)] [(0, y0)] (wr M V) o := by
  delta j_X16_wellFormed_321 at h
  refine S_istore_n (i := 1) dX16_wellFormed_321 rfl (Nat.le_of_ble_eq_true rfl) rfl rfl ?_
  change Sem g d YX16_wellFormed 322 [(1, 156), (0, y0)] [] (wr M V) o
  refine S_iload_n (i := 1) dX16_wellFormed_322 rfl rfl ?_
  refine S_sipush (z := 291) dX16_wellFormed_323 rfl ?_
  refine P_icmp_ge (tgt := 353) dX16_wellFormed_326 rfl h (fun h => ?_) (fun h => ?_)
  · refine S_weak (ls' := [(9, 0), (9, 0)]) ⟨Or.inl rfl, ⟨Or.inl rfl, trivial⟩⟩ ?_
    exact s_X16_wellFormed_353 hD hM r0 h hz
  · refine S_aload_n (i := 0) dX16_wellFormed_329 rfl rfl ?_
    refine P2_gfi hM FLX16_742 rfl dX16_wellFormed_330 ?_
    refine S_bipush (z := 30) dX16_wellFormed_333 rfl ?_
    refine S_iload_n (i := 1) dX16_wellFormed_335 rfl rfl ?_
    refine S_iadd dX16_wellFormed_336 ?_
    refine P_icmp_ne (tgt := 353) dX16_wellFormed_337 rfl h (fun h => ?_) (fun h => ?_)
    · refine S_weak (ls' := [(9, 0), (9, 0)]) ⟨Or.inl rfl, ⟨Or.inl rfl, trivial⟩⟩ ?_
      exact s_X16_wellFormed_353 hD hM r0 h hz
    · refine S_aload_n (i := 0) dX16_wellFormed_340 rfl rfl ?_
      refine S_bipush (z := 27) dX16_wellFormed_341 rfl ?_
      refine P2_invVp hM 0 [(0, 27)] [] CVX16_isHashes MLX16_755 dX16_wellFormed_343 rfl rfl rfl rfl rfl (by omega) h (fun r h => F_X16_isHashes (by omega) hM h) (fun v1 h => ?_)
      refine P_if_eq (tgt := 353) dX16_wellFormed_346 rfl h (fun h => ?_) (fun h => ?_)
      · refine S_weak (ls' := [(9, 0), (9, 0)]) ⟨Or.inl rfl, ⟨Or.inl rfl, trivial⟩⟩ ?_
        exact s_X16_wellFormed_353 hD hM r0 h hz
      · refine S_iconst dX16_wellFormed_349 rfl ?_
        refine S_goto (tgt := 354) dX16_wellFormed_350 rfl ?_
        refine S_weak (ls' := [(9, 0), (9, 0)]) ⟨Or.inl rfl, ⟨Or.inl rfl, trivial⟩⟩ ?_
        exact s_X16_wellFormed_354 hD hM r0 h hz
theorem s_X16_wellFormed_299 {g : GG} {d : Nat} (hD : 1 ≤ d) {y0 : Int} {M : MM} (hM : LM M) {V : VV} {o : AV × MM} {P : (Int) → Prop} (r0 : ∀ r : Int, P r → o = ((0, r), (wr M V))) {z : Int} (h : j_X16_wellFormed_299 y0 V = some z) (hz : P z) : Sem g d YX16_wellFormed 299 [(9, 0), (9, 0)] [(0, y0)] (wr M V) o := by
  delta j_X16_wellFormed_299 at h
  obtain ⟨hb, h⟩ := bz_some h
  obtain rfl := r0 _ (some_P (P := fun r => P r) h hz)
  exact P_ret dX16_wellFormed_299 rfl (Or.inr ⟨rfl, hb⟩)
theorem s_X16_wellFormed_298 {g : GG} {d : Nat} (hD : 1 ≤ d) {M : MM} (hM : LM M) {V : VV} {o : AV × MM} {P : (Int) → Prop} (r0 : ∀ r : Int, P r → o = ((0, r), (wr M V))) {z : Int} (h : j_X16_wellFormed_298 V = some z) (hz : P z) : Sem g d YX16_wellFormed 298 [(9, 0), (9, 0)] [] (wr M V) o := by
  delta j_X16_wellFormed_298 at h
  refine S_iconst dX16_wellFormed_298 rfl ?_
  exact s_X16_wellFormed_299 hD hM r0 h hz
theorem s_X16_wellFormed_259 {g : GG} {d : Nat} (hD : 1 ≤ d) {y0 : Int} {M : MM} (hM : LM M) {V : VV} {o : AV × MM} {P : (Int) → Prop} (r0 : ∀ r : Int, P r → o = ((0, r), (wr M V))) {z : Int} (h : j_X16_wellFormed_259 y0 V = some z) (hz : P z) : Sem g d YX16_wellFormed 259 [(1, 156), (9, 0)] [(0, y0)] (wr M V) o := by
  delta j_X16_wellFormed_259 at h
  refine S_istore_n (i := 1) dX16_wellFormed_259 rfl (Nat.le_of_ble_eq_true rfl) rfl rfl ?_
  change Sem g d YX16_wellFormed 260 [(1, 156), (0, y0)] [] (wr M V) o
  refine S_iload_n (i := 1) dX16_wellFormed_260 rfl rfl ?_
  refine P_if_le (tgt := 298) dX16_wellFormed_261 rfl h (fun h => ?_) (fun h => ?_)
  · refine S_weak (ls' := [(9, 0), (9, 0)]) ⟨Or.inl rfl, ⟨Or.inl rfl, trivial⟩⟩ ?_
    exact s_X16_wellFormed_298 hD hM r0 h hz
  · refine S_iload_n (i := 1) dX16_wellFormed_264 rfl rfl ?_
    refine S_bipush (z := 17) dX16_wellFormed_265 rfl ?_
    refine P_icmp_ge (tgt := 298) dX16_wellFormed_267 rfl h (fun h => ?_) (fun h => ?_)
    · refine S_weak (ls' := [(9, 0), (9, 0)]) ⟨Or.inl rfl, ⟨Or.inl rfl, trivial⟩⟩ ?_
      exact s_X16_wellFormed_298 hD hM r0 h hz
    · refine S_aload_n (i := 0) dX16_wellFormed_270 rfl rfl ?_
      refine P2_gfi hM FLX16_742 rfl dX16_wellFormed_271 ?_
      refine S_bipush (z := 46) dX16_wellFormed_274 rfl ?_
      refine S_iconst dX16_wellFormed_276 rfl ?_
      refine S_iload_n (i := 1) dX16_wellFormed_277 rfl rfl ?_
      refine S_imul dX16_wellFormed_278 ?_
      refine S_iadd dX16_wellFormed_279 ?_
      refine P_icmp_ne (tgt := 298) dX16_wellFormed_280 rfl h (fun h => ?_) (fun h => ?_)
      · refine S_weak (ls' := [(9, 0), (9, 0)]) ⟨Or.inl rfl, ⟨Or.inl rfl, trivial⟩⟩ ?_
        exact s_X16_wellFormed_298 hD hM r0 h hz
      · refine S_aload_n (i := 0) dX16_wellFormed_283 rfl rfl ?_
        refine S_bipush (z := 46) dX16_wellFormed_284 rfl ?_
        refine S_iload_n (i := 1) dX16_wellFormed_286 rfl rfl ?_
        refine S_iconst dX16_wellFormed_287 rfl ?_
        refine P2_invVp hM 0 [(0, 46), (0, y0), (0, 3)] [] CVX16_areRows MLX16_748 dX16_wellFormed_288 rfl rfl rfl rfl rfl (by omega) h (fun r h => F_X16_areRows (by omega) hM h) (fun v1 h => ?_)
        refine P_if_eq (tgt := 298) dX16_wellFormed_291 rfl h (fun h => ?_) (fun h => ?_)
        · refine S_weak (ls' := [(9, 0), (9, 0)]) ⟨Or.inl rfl, ⟨Or.inl rfl, trivial⟩⟩ ?_
          exact s_X16_wellFormed_298 hD hM r0 h hz
        · refine S_iconst dX16_wellFormed_294 rfl ?_
          refine S_goto (tgt := 299) dX16_wellFormed_295 rfl ?_
          refine S_weak (ls' := [(9, 0), (9, 0)]) ⟨Or.inl rfl, ⟨Or.inl rfl, trivial⟩⟩ ?_
          exact s_X16_wellFormed_299 hD hM r0 h hz
theorem s_X16_wellFormed_237 {g : GG} {d : Nat} (hD : 1 ≤ d) {y0 : Int} {M : MM} (hM : LM M) {V : VV} {o : AV × MM} {P : (Int) → Prop} (r0 : ∀ r : Int, P r → o = ((0, r), (wr M V))) {z : Int} (h : j_X16_wellFormed_237 y0 V = some z) (hz : P z) : Sem g d YX16_wellFormed 237 [(9, 0), (9, 0)] [(0, y0)] (wr M V) o := by
  delta j_X16_wellFormed_237 at h
  obtain ⟨hb, h⟩ := bz_some h
  obtain rfl := r0 _ (some_P (P := fun r => P r) h hz)
  exact P_ret dX16_wellFormed_237 rfl (Or.inr ⟨rfl, hb⟩)
theorem s_X16_wellFormed_236 {g : GG} {d : Nat} (hD : 1 ≤ d) {M : MM} (hM : LM M) {V : VV} {o : AV × MM} {P : (Int) → Prop} (r0 : ∀ r : Int, P r → o = ((0, r), (wr M V))) {z : Int} (h : j_X16_wellFormed_236 V = some z) (hz : P z) : Sem g d YX16_wellFormed 236 [(9, 0), (9, 0)] [] (wr M V) o := by
  delta j_X16_wellFormed_236 at h
  refine S_iconst dX16_wellFormed_236 rfl ?_
  exact s_X16_wellFormed_237 hD hM r0 h hz
theorem s_X16_wellFormed_201 {g : GG} {d : Nat} (hD : 1 ≤ d) {y0 : Int} {M : MM} (hM : LM M) {V : VV} {o : AV × MM} {P : (Int) → Prop} (r0 : ∀ r : Int, P r → o = ((0, r), (wr M V))) {z : Int} (h : j_X16_wellFormed_201 y0 V = some z) (hz : P z) : Sem g d YX16_wellFormed 201 [(1, 156), (9, 0)] [(0, y0)] (wr M V) o := by
  delta j_X16_wellFormed_201 at h
  refine S_istore_n (i := 1) dX16_wellFormed_201 rfl (Nat.le_of_ble_eq_true rfl) rfl rfl ?_
  change Sem g d YX16_wellFormed 202 [(1, 156), (0, y0)] [] (wr M V) o
  refine S_iload_n (i := 1) dX16_wellFormed_202 rfl rfl ?_
  refine S_bipush (z := 21) dX16_wellFormed_203 rfl ?_
  refine P_icmp_ge (tgt := 236) dX16_wellFormed_205 rfl h (fun h => ?_) (fun h => ?_)
  · refine S_weak (ls' := [(9, 0), (9, 0)]) ⟨Or.inl rfl, ⟨Or.inl rfl, trivial⟩⟩ ?_
    exact s_X16_wellFormed_236 hD hM r0 h hz
  · refine S_aload_n (i := 0) dX16_wellFormed_208 rfl rfl ?_
    refine P2_gfi hM FLX16_742 rfl dX16_wellFormed_209 ?_
    refine S_bipush (z := 28) dX16_wellFormed_212 rfl ?_
    refine S_bipush (z := 21) dX16_wellFormed_214 rfl ?_
    refine S_iload_n (i := 1) dX16_wellFormed_216 rfl rfl ?_
    refine S_imul dX16_wellFormed_217 ?_
    refine S_iadd dX16_wellFormed_218 ?_
    refine P_icmp_ne (tgt := 236) dX16_wellFormed_219 rfl h (fun h => ?_) (fun h => ?_)
    · refine S_weak (ls' := [(9, 0), (9, 0)]) ⟨Or.inl rfl, ⟨Or.inl rfl, trivial⟩⟩ ?_
      exact s_X16_wellFormed_236 hD hM r0 h hz
    · refine S_aload_n (i := 0) dX16_wellFormed_222 rfl rfl ?_
      refine S_bipush (z := 28) dX16_wellFormed_223 rfl ?_
      refine S_iload_n (i := 1) dX16_wellFormed_225 rfl rfl ?_
      refine P2_invVp hM 0 [(0, 28), (0, y0)] [] CVX16_areNodes MLX16_745 dX16_wellFormed_226 rfl rfl rfl rfl rfl (by omega) h (fun r h => F_X16_areNodes (by omega) hM h) (fun v1 h => ?_)
      refine P_if_eq (tgt := 236) dX16_wellFormed_229 rfl h (fun h => ?_) (fun h => ?_)
      · refine S_weak (ls' := [(9, 0), (9, 0)]) ⟨Or.inl rfl, ⟨Or.inl rfl, trivial⟩⟩ ?_
        exact s_X16_wellFormed_236 hD hM r0 h hz
      · refine S_iconst dX16_wellFormed_232 rfl ?_
        refine S_goto (tgt := 237) dX16_wellFormed_233 rfl ?_
        refine S_weak (ls' := [(9, 0), (9, 0)]) ⟨Or.inl rfl, ⟨Or.inl rfl, trivial⟩⟩ ?_
        exact s_X16_wellFormed_237 hD hM r0 h hz
theorem s_X16_wellFormed_179 {g : GG} {d : Nat} (hD : 1 ≤ d) {y0 : Int} {M : MM} (hM : LM M) {V : VV} {o : AV × MM} {P : (Int) → Prop} (r0 : ∀ r : Int, P r → o = ((0, r), (wr M V))) {z : Int} (h : j_X16_wellFormed_179 y0 V = some z) (hz : P z) : Sem g d YX16_wellFormed 179 [(9, 0), (9, 0)] [(0, y0)] (wr M V) o := by
  delta j_X16_wellFormed_179 at h
  obtain ⟨hb, h⟩ := bz_some h
  obtain rfl := r0 _ (some_P (P := fun r => P r) h hz)
  exact P_ret dX16_wellFormed_179 rfl (Or.inr ⟨rfl, hb⟩)
theorem s_X16_wellFormed_178 {g : GG} {d : Nat} (hD : 1 ≤ d) {M : MM} (hM : LM M) {V : VV} {o : AV × MM} {P : (Int) → Prop} (r0 : ∀ r : Int, P r → o = ((0, r), (wr M V))) {z : Int} (h : j_X16_wellFormed_178 V = some z) (hz : P z) : Sem g d YX16_wellFormed 178 [(9, 0), (9, 0)] [] (wr M V) o := by
  delta j_X16_wellFormed_178 at h
  refine S_iconst dX16_wellFormed_178 rfl ?_
  exact s_X16_wellFormed_179 hD hM r0 h hz
theorem s_X16_wellFormed_143 {g : GG} {d : Nat} (hD : 1 ≤ d) {y0 : Int} {M : MM} (hM : LM M) {V : VV} {o : AV × MM} {P : (Int) → Prop} (r0 : ∀ r : Int, P r → o = ((0, r), (wr M V))) {z : Int} (h : j_X16_wellFormed_143 y0 V = some z) (hz : P z) : Sem g d YX16_wellFormed 143 [(1, 156), (9, 0)] [(0, y0)] (wr M V) o := by
  delta j_X16_wellFormed_143 at h
  refine S_istore_n (i := 1) dX16_wellFormed_143 rfl (Nat.le_of_ble_eq_true rfl) rfl rfl ?_
  change Sem g d YX16_wellFormed 144 [(1, 156), (0, y0)] [] (wr M V) o
  refine S_iload_n (i := 1) dX16_wellFormed_144 rfl rfl ?_
  refine S_bipush (z := 21) dX16_wellFormed_145 rfl ?_
  refine P_icmp_ge (tgt := 178) dX16_wellFormed_147 rfl h (fun h => ?_) (fun h => ?_)
  · refine S_weak (ls' := [(9, 0), (9, 0)]) ⟨Or.inl rfl, ⟨Or.inl rfl, trivial⟩⟩ ?_
    exact s_X16_wellFormed_178 hD hM r0 h hz
  · refine S_aload_n (i := 0) dX16_wellFormed_150 rfl rfl ?_
    refine P2_gfi hM FLX16_742 rfl dX16_wellFormed_151 ?_
    refine S_bipush (z := 26) dX16_wellFormed_154 rfl ?_
    refine S_bipush (z := 21) dX16_wellFormed_156 rfl ?_
    refine S_iload_n (i := 1) dX16_wellFormed_158 rfl rfl ?_
    refine S_imul dX16_wellFormed_159 ?_
    refine S_iadd dX16_wellFormed_160 ?_
    refine P_icmp_ne (tgt := 178) dX16_wellFormed_161 rfl h (fun h => ?_) (fun h => ?_)
    · refine S_weak (ls' := [(9, 0), (9, 0)]) ⟨Or.inl rfl, ⟨Or.inl rfl, trivial⟩⟩ ?_
      exact s_X16_wellFormed_178 hD hM r0 h hz
    · refine S_aload_n (i := 0) dX16_wellFormed_164 rfl rfl ?_
      refine S_bipush (z := 26) dX16_wellFormed_165 rfl ?_
      refine S_iload_n (i := 1) dX16_wellFormed_167 rfl rfl ?_
      refine P2_invVp hM 0 [(0, 26), (0, y0)] [] CVX16_areNodes MLX16_745 dX16_wellFormed_168 rfl rfl rfl rfl rfl (by omega) h (fun r h => F_X16_areNodes (by omega) hM h) (fun v1 h => ?_)
      refine P_if_eq (tgt := 178) dX16_wellFormed_171 rfl h (fun h => ?_) (fun h => ?_)
      · refine S_weak (ls' := [(9, 0), (9, 0)]) ⟨Or.inl rfl, ⟨Or.inl rfl, trivial⟩⟩ ?_
        exact s_X16_wellFormed_178 hD hM r0 h hz
      · refine S_iconst dX16_wellFormed_174 rfl ?_
        refine S_goto (tgt := 179) dX16_wellFormed_175 rfl ?_
        refine S_weak (ls' := [(9, 0), (9, 0)]) ⟨Or.inl rfl, ⟨Or.inl rfl, trivial⟩⟩ ?_
        exact s_X16_wellFormed_179 hD hM r0 h hz
theorem s_X16_wellFormed_121 {g : GG} {d : Nat} (hD : 1 ≤ d) {y0 : Int} {M : MM} (hM : LM M) {V : VV} {o : AV × MM} {P : (Int) → Prop} (r0 : ∀ r : Int, P r → o = ((0, r), (wr M V))) {z : Int} (h : j_X16_wellFormed_121 y0 V = some z) (hz : P z) : Sem g d YX16_wellFormed 121 [(9, 0), (9, 0)] [(0, y0)] (wr M V) o := by
  delta j_X16_wellFormed_121 at h
  obtain ⟨hb, h⟩ := bz_some h
  obtain rfl := r0 _ (some_P (P := fun r => P r) h hz)
  exact P_ret dX16_wellFormed_121 rfl (Or.inr ⟨rfl, hb⟩)
theorem s_X16_wellFormed_106 {g : GG} {d : Nat} (hD : 1 ≤ d) {y0 : Int} {M : MM} (hM : LM M) {V : VV} {o : AV × MM} {P : (Int) → Prop} (r0 : ∀ r : Int, P r → o = ((0, r), (wr M V))) {z : Int} (h : j_X16_wellFormed_106 y0 V = some z) (hz : P z) : Sem g d YX16_wellFormed 106 [(9, 0), (9, 0)] [(0, y0)] (wr M V) o := by
  delta j_X16_wellFormed_106 at h
  obtain ⟨hb, h⟩ := bz_some h
  obtain rfl := r0 _ (some_P (P := fun r => P r) h hz)
  exact P_ret dX16_wellFormed_106 rfl (Or.inr ⟨rfl, hb⟩)
theorem s_X16_wellFormed_0 {g : GG} {d : Nat} (hD : 1 ≤ d) {M : MM} (hM : LM M) {V : VV} {o : AV × MM} {P : (Int) → Prop} (r0 : ∀ r : Int, P r → o = ((0, r), (wr M V))) {z : Int} (h : f_X16_wellFormed V = some z) (hz : P z) : Sem g d YX16_wellFormed 0 [(1, 156), (9, 0)] [] (wr M V) o := by
  delta f_X16_wellFormed at h
  refine S_aload_n (i := 0) dX16_wellFormed_0 rfl rfl ?_
  refine P2_gfi hM FLX16_742 rfl dX16_wellFormed_1 ?_
  refine S_bipush (z := 25) dX16_wellFormed_4 rfl ?_
  refine P_icmp_ge (tgt := 11) dX16_wellFormed_6 rfl h (fun h => ?_) (fun h => ?_)
  · refine S_aload_n (i := 0) dX16_wellFormed_11 rfl rfl ?_
    refine P2_gfr hM (a := 271) FLX16_361 rfl ⟨rfl, rfl⟩ dX16_wellFormed_12 ?_
    refine S_iconst dX16_wellFormed_15 rfl ?_
    refine P2_lai hM (a := 271) (n := 460) rfl dX16_wellFormed_16 h (fun v1 h => ?_)
    refine P_swt [92, 92, 107, 122, 107, 180, 238, 92, 107, 300, 355, 410, 479, 541, 92] 599 dX16_wellFormed_17 rfl rfl rfl rfl h ?_ (fun h => ?_)
    · intro i X hX h t ht
      rcases i with _ | i
      · have e1 := Option.some.inj hX
        have e2 := Option.some.inj ht
        subst e1
        subst e2
        refine S_aload_n (i := 0) dX16_wellFormed_92 rfl rfl ?_
        refine P2_gfi hM FLX16_742 rfl dX16_wellFormed_93 ?_
        refine S_bipush (z := 25) dX16_wellFormed_96 rfl ?_
        refine P_icmp_ne (tgt := 105) dX16_wellFormed_98 rfl h (fun h => ?_) (fun h => ?_)
        · refine S_iconst dX16_wellFormed_105 rfl ?_
          refine S_weak (ls' := [(9, 0), (9, 0)]) ⟨Or.inl rfl, ⟨Or.inl rfl, trivial⟩⟩ ?_
          exact s_X16_wellFormed_106 hD hM r0 h hz
        · refine S_iconst dX16_wellFormed_101 rfl ?_
          refine S_goto (tgt := 106) dX16_wellFormed_102 rfl ?_
          refine S_weak (ls' := [(9, 0), (9, 0)]) ⟨Or.inl rfl, ⟨Or.inl rfl, trivial⟩⟩ ?_
          exact s_X16_wellFormed_106 hD hM r0 h hz
      rcases i with _ | i
      · have e1 := Option.some.inj hX
        have e2 := Option.some.inj ht
        subst e1
        subst e2
        refine S_aload_n (i := 0) dX16_wellFormed_92 rfl rfl ?_
        refine P2_gfi hM FLX16_742 rfl dX16_wellFormed_93 ?_
        refine S_bipush (z := 25) dX16_wellFormed_96 rfl ?_
        refine P_icmp_ne (tgt := 105) dX16_wellFormed_98 rfl h (fun h => ?_) (fun h => ?_)
        · refine S_iconst dX16_wellFormed_105 rfl ?_
          refine S_weak (ls' := [(9, 0), (9, 0)]) ⟨Or.inl rfl, ⟨Or.inl rfl, trivial⟩⟩ ?_
          exact s_X16_wellFormed_106 hD hM r0 h hz
        · refine S_iconst dX16_wellFormed_101 rfl ?_
          refine S_goto (tgt := 106) dX16_wellFormed_102 rfl ?_
          refine S_weak (ls' := [(9, 0), (9, 0)]) ⟨Or.inl rfl, ⟨Or.inl rfl, trivial⟩⟩ ?_
          exact s_X16_wellFormed_106 hD hM r0 h hz
      rcases i with _ | i
      · have e1 := Option.some.inj hX
        have e2 := Option.some.inj ht
        subst e1
        subst e2
        refine S_aload_n (i := 0) dX16_wellFormed_107 rfl rfl ?_
        refine P2_gfi hM FLX16_742 rfl dX16_wellFormed_108 ?_
        refine S_bipush (z := 45) dX16_wellFormed_111 rfl ?_
        refine P_icmp_ne (tgt := 120) dX16_wellFormed_113 rfl h (fun h => ?_) (fun h => ?_)
        · refine S_iconst dX16_wellFormed_120 rfl ?_
          refine S_weak (ls' := [(9, 0), (9, 0)]) ⟨Or.inl rfl, ⟨Or.inl rfl, trivial⟩⟩ ?_
          exact s_X16_wellFormed_121 hD hM r0 h hz
        · refine S_iconst dX16_wellFormed_116 rfl ?_
          refine S_goto (tgt := 121) dX16_wellFormed_117 rfl ?_
          refine S_weak (ls' := [(9, 0), (9, 0)]) ⟨Or.inl rfl, ⟨Or.inl rfl, trivial⟩⟩ ?_
          exact s_X16_wellFormed_121 hD hM r0 h hz
      rcases i with _ | i
      · have e1 := Option.some.inj hX
        have e2 := Option.some.inj ht
        subst e1
        subst e2
        refine S_aload_n (i := 0) dX16_wellFormed_122 rfl rfl ?_
        refine P2_gfi hM FLX16_742 rfl dX16_wellFormed_123 ?_
        refine S_bipush (z := 26) dX16_wellFormed_126 rfl ?_
        refine P_icmp_ge (tgt := 136) dX16_wellFormed_128 rfl h (fun h => ?_) (fun h => ?_)
        · refine S_aload_n (i := 0) dX16_wellFormed_136 rfl rfl ?_
          refine P2_gfr hM (a := 271) FLX16_361 rfl ⟨rfl, rfl⟩ dX16_wellFormed_137 ?_
          refine S_bipush (z := 25) dX16_wellFormed_140 rfl ?_
          refine P2_lai hM (a := 271) (n := 460) rfl dX16_wellFormed_142 h (fun v2 h => ?_)
          exact s_X16_wellFormed_143 hD hM r0 h hz
        · refine S_bipush (z := 99) dX16_wellFormed_131 rfl ?_
          refine S_goto (tgt := 143) dX16_wellFormed_133 rfl ?_
          exact s_X16_wellFormed_143 hD hM r0 h hz
      rcases i with _ | i
      · have e1 := Option.some.inj hX
        have e2 := Option.some.inj ht
        subst e1
        subst e2
        refine S_aload_n (i := 0) dX16_wellFormed_107 rfl rfl ?_
        refine P2_gfi hM FLX16_742 rfl dX16_wellFormed_108 ?_
        refine S_bipush (z := 45) dX16_wellFormed_111 rfl ?_
        refine P_icmp_ne (tgt := 120) dX16_wellFormed_113 rfl h (fun h => ?_) (fun h => ?_)
        · refine S_iconst dX16_wellFormed_120 rfl ?_
          refine S_weak (ls' := [(9, 0), (9, 0)]) ⟨Or.inl rfl, ⟨Or.inl rfl, trivial⟩⟩ ?_
          exact s_X16_wellFormed_121 hD hM r0 h hz
        · refine S_iconst dX16_wellFormed_116 rfl ?_
          refine S_goto (tgt := 121) dX16_wellFormed_117 rfl ?_
          refine S_weak (ls' := [(9, 0), (9, 0)]) ⟨Or.inl rfl, ⟨Or.inl rfl, trivial⟩⟩ ?_
          exact s_X16_wellFormed_121 hD hM r0 h hz
      rcases i with _ | i
      · have e1 := Option.some.inj hX
        have e2 := Option.some.inj ht
        subst e1
        subst e2
        refine S_aload_n (i := 0) dX16_wellFormed_180 rfl rfl ?_
        refine P2_gfi hM FLX16_742 rfl dX16_wellFormed_181 ?_
        refine S_bipush (z := 28) dX16_wellFormed_184 rfl ?_
        refine P_icmp_ge (tgt := 194) dX16_wellFormed_186 rfl h (fun h => ?_) (fun h => ?_)
        · refine S_aload_n (i := 0) dX16_wellFormed_194 rfl rfl ?_
          refine P2_gfr hM (a := 271) FLX16_361 rfl ⟨rfl, rfl⟩ dX16_wellFormed_195 ?_
          refine S_bipush (z := 27) dX16_wellFormed_198 rfl ?_
          refine P2_lai hM (a := 271) (n := 460) rfl dX16_wellFormed_200 h (fun v3 h => ?_)
          exact s_X16_wellFormed_201 hD hM r0 h hz
        · refine S_bipush (z := 99) dX16_wellFormed_189 rfl ?_
          refine S_goto (tgt := 201) dX16_wellFormed_191 rfl ?_
          exact s_X16_wellFormed_201 hD hM r0 h hz
      rcases i with _ | i
      · have e1 := Option.some.inj hX
        have e2 := Option.some.inj ht
        subst e1
        subst e2
        refine S_aload_n (i := 0) dX16_wellFormed_238 rfl rfl ?_
        refine P2_gfi hM FLX16_742 rfl dX16_wellFormed_239 ?_
        refine S_bipush (z := 46) dX16_wellFormed_242 rfl ?_
        refine P_icmp_ge (tgt := 252) dX16_wellFormed_244 rfl h (fun h => ?_) (fun h => ?_)
        · refine S_aload_n (i := 0) dX16_wellFormed_252 rfl rfl ?_
          refine P2_gfr hM (a := 271) FLX16_361 rfl ⟨rfl, rfl⟩ dX16_wellFormed_253 ?_
          refine S_bipush (z := 45) dX16_wellFormed_256 rfl ?_
          refine P2_lai hM (a := 271) (n := 460) rfl dX16_wellFormed_258 h (fun v4 h => ?_)
          exact s_X16_wellFormed_259 hD hM r0 h hz
        · refine S_bipush (z := 99) dX16_wellFormed_247 rfl ?_
          refine S_goto (tgt := 259) dX16_wellFormed_249 rfl ?_
          exact s_X16_wellFormed_259 hD hM r0 h hz
      rcases i with _ | i
      · have e1 := Option.some.inj hX
        have e2 := Option.some.inj ht
        subst e1
        subst e2
        refine S_aload_n (i := 0) dX16_wellFormed_92 rfl rfl ?_
        refine P2_gfi hM FLX16_742 rfl dX16_wellFormed_93 ?_
        refine S_bipush (z := 25) dX16_wellFormed_96 rfl ?_
        refine P_icmp_ne (tgt := 105) dX16_wellFormed_98 rfl h (fun h => ?_) (fun h => ?_)
        · refine S_iconst dX16_wellFormed_105 rfl ?_
          refine S_weak (ls' := [(9, 0), (9, 0)]) ⟨Or.inl rfl, ⟨Or.inl rfl, trivial⟩⟩ ?_
          exact s_X16_wellFormed_106 hD hM r0 h hz
        · refine S_iconst dX16_wellFormed_101 rfl ?_
          refine S_goto (tgt := 106) dX16_wellFormed_102 rfl ?_
          refine S_weak (ls' := [(9, 0), (9, 0)]) ⟨Or.inl rfl, ⟨Or.inl rfl, trivial⟩⟩ ?_
          exact s_X16_wellFormed_106 hD hM r0 h hz
      rcases i with _ | i
      · have e1 := Option.some.inj hX
        have e2 := Option.some.inj ht
        subst e1
        subst e2
        refine S_aload_n (i := 0) dX16_wellFormed_107 rfl rfl ?_
        refine P2_gfi hM FLX16_742 rfl dX16_wellFormed_108 ?_
        refine S_bipush (z := 45) dX16_wellFormed_111 rfl ?_
        refine P_icmp_ne (tgt := 120) dX16_wellFormed_113 rfl h (fun h => ?_) (fun h => ?_)
        · refine S_iconst dX16_wellFormed_120 rfl ?_
          refine S_weak (ls' := [(9, 0), (9, 0)]) ⟨Or.inl rfl, ⟨Or.inl rfl, trivial⟩⟩ ?_
          exact s_X16_wellFormed_121 hD hM r0 h hz
        · refine S_iconst dX16_wellFormed_116 rfl ?_
          refine S_goto (tgt := 121) dX16_wellFormed_117 rfl ?_
          refine S_weak (ls' := [(9, 0), (9, 0)]) ⟨Or.inl rfl, ⟨Or.inl rfl, trivial⟩⟩ ?_
          exact s_X16_wellFormed_121 hD hM r0 h hz
      rcases i with _ | i
      · have e1 := Option.some.inj hX
        have e2 := Option.some.inj ht
        subst e1
        subst e2
        refine S_aload_n (i := 0) dX16_wellFormed_300 rfl rfl ?_
        refine P2_gfi hM FLX16_742 rfl dX16_wellFormed_301 ?_
        refine S_bipush (z := 30) dX16_wellFormed_304 rfl ?_
        refine P_icmp_ge (tgt := 315) dX16_wellFormed_306 rfl h (fun h => ?_) (fun h => ?_)
        · refine S_aload_n (i := 0) dX16_wellFormed_315 rfl rfl ?_
          refine S_bipush (z := 28) dX16_wellFormed_316 rfl ?_
          refine P2_invVp hM 0 [(0, 28)] [] CVX16_pairAt MLX16_752 dX16_wellFormed_318 rfl rfl rfl rfl rfl (by omega) h (fun r h => F_X16_pairAt (by omega) hM h) (fun v5 h => ?_)
          exact s_X16_wellFormed_321 hD hM r0 h hz
        · refine S_sipush (z := 999) dX16_wellFormed_309 rfl ?_
          refine S_goto (tgt := 321) dX16_wellFormed_312 rfl ?_
          exact s_X16_wellFormed_321 hD hM r0 h hz
      rcases i with _ | i
      · have e1 := Option.some.inj hX
        have e2 := Option.some.inj ht
        subst e1
        subst e2
        refine S_aload_n (i := 0) dX16_wellFormed_355 rfl rfl ?_
        refine P2_gfi hM FLX16_742 rfl dX16_wellFormed_356 ?_
        refine S_bipush (z := 50) dX16_wellFormed_359 rfl ?_
        refine P_icmp_ge (tgt := 370) dX16_wellFormed_361 rfl h (fun h => ?_) (fun h => ?_)
        · refine S_aload_n (i := 0) dX16_wellFormed_370 rfl rfl ?_
          refine S_bipush (z := 48) dX16_wellFormed_371 rfl ?_
          refine P2_invVp hM 0 [(0, 48)] [] CVX16_pairAt MLX16_752 dX16_wellFormed_373 rfl rfl rfl rfl rfl (by omega) h (fun r h => F_X16_pairAt (by omega) hM h) (fun v6 h => ?_)
          exact s_X16_wellFormed_376 hD hM r0 h hz
        · refine S_sipush (z := 999) dX16_wellFormed_364 rfl ?_
          refine S_goto (tgt := 376) dX16_wellFormed_367 rfl ?_
          exact s_X16_wellFormed_376 hD hM r0 h hz
      rcases i with _ | i
      · have e1 := Option.some.inj hX
        have e2 := Option.some.inj ht
        subst e1
        subst e2
        refine S_aload_n (i := 0) dX16_wellFormed_410 rfl rfl ?_
        refine P2_gfi hM FLX16_742 rfl dX16_wellFormed_411 ?_
        refine S_bipush (z := 27) dX16_wellFormed_414 rfl ?_
        refine P_icmp_ge (tgt := 424) dX16_wellFormed_416 rfl h (fun h => ?_) (fun h => ?_)
        · refine S_aload_n (i := 0) dX16_wellFormed_424 rfl rfl ?_
          refine P2_gfr hM (a := 271) FLX16_361 rfl ⟨rfl, rfl⟩ dX16_wellFormed_425 ?_
          refine S_bipush (z := 26) dX16_wellFormed_428 rfl ?_
          refine P2_lai hM (a := 271) (n := 460) rfl dX16_wellFormed_430 h (fun v7 h => ?_)
          exact s_X16_wellFormed_431 hD hM r0 h hz
        · refine S_bipush (z := 99) dX16_wellFormed_419 rfl ?_
          refine S_goto (tgt := 431) dX16_wellFormed_421 rfl ?_
          exact s_X16_wellFormed_431 hD hM r0 h hz
      rcases i with _ | i
      · have e1 := Option.some.inj hX
        have e2 := Option.some.inj ht
        subst e1
        subst e2
        refine S_aload_n (i := 0) dX16_wellFormed_479 rfl rfl ?_
        refine P2_gfi hM FLX16_742 rfl dX16_wellFormed_480 ?_
        refine S_bipush (z := 46) dX16_wellFormed_483 rfl ?_
        refine P_icmp_ge (tgt := 493) dX16_wellFormed_485 rfl h (fun h => ?_) (fun h => ?_)
        · refine S_aload_n (i := 0) dX16_wellFormed_493 rfl rfl ?_
          refine P2_gfr hM (a := 271) FLX16_361 rfl ⟨rfl, rfl⟩ dX16_wellFormed_494 ?_
          refine S_bipush (z := 45) dX16_wellFormed_497 rfl ?_
          refine P2_lai hM (a := 271) (n := 460) rfl dX16_wellFormed_499 h (fun v8 h => ?_)
          exact s_X16_wellFormed_500 hD hM r0 h hz
        · refine S_bipush (z := 99) dX16_wellFormed_488 rfl ?_
          refine S_goto (tgt := 500) dX16_wellFormed_490 rfl ?_
          exact s_X16_wellFormed_500 hD hM r0 h hz
      rcases i with _ | i
      · have e1 := Option.some.inj hX
        have e2 := Option.some.inj ht
        subst e1
        subst e2
        refine S_aload_n (i := 0) dX16_wellFormed_541 rfl rfl ?_
        refine P2_gfi hM FLX16_742 rfl dX16_wellFormed_542 ?_
        refine S_bipush (z := 26) dX16_wellFormed_545 rfl ?_
        refine P_icmp_ge (tgt := 555) dX16_wellFormed_547 rfl h (fun h => ?_) (fun h => ?_)
        · refine S_aload_n (i := 0) dX16_wellFormed_555 rfl rfl ?_
          refine P2_gfr hM (a := 271) FLX16_361 rfl ⟨rfl, rfl⟩ dX16_wellFormed_556 ?_
          refine S_bipush (z := 25) dX16_wellFormed_559 rfl ?_
          refine P2_lai hM (a := 271) (n := 460) rfl dX16_wellFormed_561 h (fun v9 h => ?_)
          exact s_X16_wellFormed_562 hD hM r0 h hz
        · refine S_bipush (z := 99) dX16_wellFormed_550 rfl ?_
          refine S_goto (tgt := 562) dX16_wellFormed_552 rfl ?_
          exact s_X16_wellFormed_562 hD hM r0 h hz
      rcases i with _ | i
      · have e1 := Option.some.inj hX
        have e2 := Option.some.inj ht
        subst e1
        subst e2
        refine S_aload_n (i := 0) dX16_wellFormed_92 rfl rfl ?_
        refine P2_gfi hM FLX16_742 rfl dX16_wellFormed_93 ?_
        refine S_bipush (z := 25) dX16_wellFormed_96 rfl ?_
        refine P_icmp_ne (tgt := 105) dX16_wellFormed_98 rfl h (fun h => ?_) (fun h => ?_)
        · refine S_iconst dX16_wellFormed_105 rfl ?_
          refine S_weak (ls' := [(9, 0), (9, 0)]) ⟨Or.inl rfl, ⟨Or.inl rfl, trivial⟩⟩ ?_
          exact s_X16_wellFormed_106 hD hM r0 h hz
        · refine S_iconst dX16_wellFormed_101 rfl ?_
          refine S_goto (tgt := 106) dX16_wellFormed_102 rfl ?_
          refine S_weak (ls' := [(9, 0), (9, 0)]) ⟨Or.inl rfl, ⟨Or.inl rfl, trivial⟩⟩ ?_
          exact s_X16_wellFormed_106 hD hM r0 h hz
      cases hX
    · refine S_iconst dX16_wellFormed_599 rfl ?_
      obtain rfl := r0 _ (some_P (P := fun r => P r) h hz)
      exact P_ret dX16_wellFormed_600 rfl (Or.inr ⟨rfl, Or.inl rfl⟩)
  · refine S_iconst dX16_wellFormed_9 rfl ?_
    obtain rfl := r0 _ (some_P (P := fun r => P r) h hz)
    exact P_ret dX16_wellFormed_10 rfl (Or.inr ⟨rfl, Or.inl rfl⟩)
theorem F_X16_wellFormed {g : GG} {d : Nat} (hD : 1 ≤ d) {M : MM} (hM : LM M) {V : VV} {r : Int} (h : f_X16_wellFormed V = some r) : Sem g d YX16_wellFormed 0 (ini YX16_wellFormed [(1, 156)]) [] (wr M V) ((0, r), (wr M V)) := by
  change Sem g d YX16_wellFormed 0 [(1, 156), (9, 0)] [] (wr M V) ((0, r), (wr M V))
  exact s_X16_wellFormed_0 hD hM (P := fun x => x = r) (fun q e => by rw [e]) h rfl
/-! PeerSearchModel.deliver(II)V -/
theorem dX16_deliver_0 : decode cX16_deliver 0 = .ok (.aload_n 0, 1) := by decide +kernel
theorem dX16_deliver_1 : decode cX16_deliver 1 = .ok (.getfield 57, 3) := by decide +kernel
theorem dX16_deliver_4 : decode cX16_deliver 4 = .ok (.iconst 5, 1) := by decide +kernel
theorem dX16_deliver_5 : decode cX16_deliver 5 = .ok (.iload_n 1, 1) := by decide +kernel
theorem dX16_deliver_6 : decode cX16_deliver 6 = .ok (.imul, 1) := by decide +kernel
theorem dX16_deliver_7 : decode cX16_deliver 7 = .ok (.iconst 4, 1) := by decide +kernel
theorem dX16_deliver_8 : decode cX16_deliver 8 = .ok (.iadd, 1) := by decide +kernel
theorem dX16_deliver_9 : decode cX16_deliver 9 = .ok (.dup2, 1) := by decide +kernel
theorem dX16_deliver_10 : decode cX16_deliver 10 = .ok (.iaload, 1) := by decide +kernel
theorem dX16_deliver_11 : decode cX16_deliver 11 = .ok (.iconst 1, 1) := by decide +kernel
theorem dX16_deliver_12 : decode cX16_deliver 12 = .ok (.iadd, 1) := by decide +kernel
theorem dX16_deliver_13 : decode cX16_deliver 13 = .ok (.iastore, 1) := by decide +kernel
theorem dX16_deliver_14 : decode cX16_deliver 14 = .ok (.aload_n 0, 1) := by decide +kernel
theorem dX16_deliver_15 : decode cX16_deliver 15 = .ok (.invokevirtual 761, 3) := by decide +kernel
theorem dX16_deliver_18 : decode cX16_deliver 18 = .ok (.ifCond .ne 16, 3) := by decide +kernel
theorem dX16_deliver_21 : decode cX16_deliver 21 = .ok (.aload_n 0, 1) := by decide +kernel
theorem dX16_deliver_22 : decode cX16_deliver 22 = .ok (.getfield 57, 3) := by decide +kernel
theorem dX16_deliver_25 : decode cX16_deliver 25 = .ok (.iconst 5, 1) := by decide +kernel
theorem dX16_deliver_26 : decode cX16_deliver 26 = .ok (.iload_n 1, 1) := by decide +kernel
theorem dX16_deliver_27 : decode cX16_deliver 27 = .ok (.imul, 1) := by decide +kernel
theorem dX16_deliver_28 : decode cX16_deliver 28 = .ok (.dup2, 1) := by decide +kernel
theorem dX16_deliver_29 : decode cX16_deliver 29 = .ok (.iaload, 1) := by decide +kernel
theorem dX16_deliver_30 : decode cX16_deliver 30 = .ok (.iconst 1, 1) := by decide +kernel
theorem dX16_deliver_31 : decode cX16_deliver 31 = .ok (.iadd, 1) := by decide +kernel
theorem dX16_deliver_32 : decode cX16_deliver 32 = .ok (.iastore, 1) := by decide +kernel
theorem dX16_deliver_33 : decode cX16_deliver 33 = .ok (.return_, 1) := by decide +kernel
theorem dX16_deliver_34 : decode cX16_deliver 34 = .ok (.aload_n 0, 1) := by decide +kernel
theorem dX16_deliver_35 : decode cX16_deliver 35 = .ok (.aload_n 0, 1) := by decide +kernel
theorem dX16_deliver_36 : decode cX16_deliver 36 = .ok (.getfield 364, 3) := by decide +kernel
theorem dX16_deliver_39 : decode cX16_deliver 39 = .ok (.iconst 5, 1) := by decide +kernel
theorem dX16_deliver_40 : decode cX16_deliver 40 = .ok (.invokevirtual 765, 3) := by decide +kernel
theorem dX16_deliver_43 : decode cX16_deliver 43 = .ok (.aload_n 0, 1) := by decide +kernel
theorem dX16_deliver_44 : decode cX16_deliver 44 = .ok (.getfield 361, 3) := by decide +kernel
theorem dX16_deliver_47 : decode cX16_deliver 47 = .ok (.iconst 0, 1) := by decide +kernel
theorem dX16_deliver_48 : decode cX16_deliver 48 = .ok (.iaload, 1) := by decide +kernel
theorem dX16_deliver_49 : decode cX16_deliver 49 = .ok (.bipush 15, 2) := by decide +kernel
theorem dX16_deliver_51 : decode cX16_deliver 51 = .ok (.if_icmp .ne 17, 3) := by decide +kernel
theorem dX16_deliver_54 : decode cX16_deliver 54 = .ok (.aload_n 0, 1) := by decide +kernel
theorem dX16_deliver_55 : decode cX16_deliver 55 = .ok (.iload_n 1, 1) := by decide +kernel
theorem dX16_deliver_56 : decode cX16_deliver 56 = .ok (.aload_n 0, 1) := by decide +kernel
theorem dX16_deliver_57 : decode cX16_deliver 57 = .ok (.getfield 364, 3) := by decide +kernel
theorem dX16_deliver_60 : decode cX16_deliver 60 = .ok (.iconst 0, 1) := by decide +kernel
theorem dX16_deliver_61 : decode cX16_deliver 61 = .ok (.iload_n 2, 1) := by decide +kernel
theorem dX16_deliver_62 : decode cX16_deliver 62 = .ok (.invokevirtual 768, 3) := by decide +kernel
theorem dX16_deliver_65 : decode cX16_deliver 65 = .ok (.goto 143, 3) := by decide +kernel
theorem dX16_deliver_68 : decode cX16_deliver 68 = .ok (.aload_n 0, 1) := by decide +kernel
theorem dX16_deliver_69 : decode cX16_deliver 69 = .ok (.getfield 361, 3) := by decide +kernel
theorem dX16_deliver_72 : decode cX16_deliver 72 = .ok (.iconst 0, 1) := by decide +kernel
theorem dX16_deliver_73 : decode cX16_deliver 73 = .ok (.iaload, 1) := by decide +kernel
theorem dX16_deliver_74 : decode cX16_deliver 74 = .ok (.iconst 2, 1) := by decide +kernel
theorem dX16_deliver_75 : decode cX16_deliver 75 = .ok (.irem, 1) := by decide +kernel
theorem dX16_deliver_76 : decode cX16_deliver 76 = .ok (.iconst 1, 1) := by decide +kernel
theorem dX16_deliver_77 : decode cX16_deliver 77 = .ok (.if_icmp .ne 23, 3) := by decide +kernel
theorem dX16_deliver_80 : decode cX16_deliver 80 = .ok (.aload_n 0, 1) := by decide +kernel
theorem dX16_deliver_81 : decode cX16_deliver 81 = .ok (.iload_n 1, 1) := by decide +kernel
theorem dX16_deliver_82 : decode cX16_deliver 82 = .ok (.aload_n 0, 1) := by decide +kernel
theorem dX16_deliver_83 : decode cX16_deliver 83 = .ok (.getfield 364, 3) := by decide +kernel
theorem dX16_deliver_86 : decode cX16_deliver 86 = .ok (.iconst 0, 1) := by decide +kernel
theorem dX16_deliver_87 : decode cX16_deliver 87 = .ok (.iload_n 2, 1) := by decide +kernel
theorem dX16_deliver_88 : decode cX16_deliver 88 = .ok (.invokevirtual 723, 3) := by decide +kernel
theorem dX16_deliver_91 : decode cX16_deliver 91 = .ok (.aload_n 0, 1) := by decide +kernel
theorem dX16_deliver_92 : decode cX16_deliver 92 = .ok (.iload_n 1, 1) := by decide +kernel
theorem dX16_deliver_93 : decode cX16_deliver 93 = .ok (.iload_n 2, 1) := by decide +kernel
theorem dX16_deliver_94 : decode cX16_deliver 94 = .ok (.invokevirtual 771, 3) := by decide +kernel
theorem dX16_deliver_97 : decode cX16_deliver 97 = .ok (.goto 111, 3) := by decide +kernel
theorem dX16_deliver_100 : decode cX16_deliver 100 = .ok (.aload_n 0, 1) := by decide +kernel
theorem dX16_deliver_101 : decode cX16_deliver 101 = .ok (.iload_n 1, 1) := by decide +kernel
theorem dX16_deliver_102 : decode cX16_deliver 102 = .ok (.iload_n 2, 1) := by decide +kernel
theorem dX16_deliver_103 : decode cX16_deliver 103 = .ok (.invokevirtual 774, 3) := by decide +kernel
theorem dX16_deliver_106 : decode cX16_deliver 106 = .ok (.istore_n 3, 1) := by decide +kernel
theorem dX16_deliver_107 : decode cX16_deliver 107 = .ok (.iload_n 3, 1) := by decide +kernel
theorem dX16_deliver_108 : decode cX16_deliver 108 = .ok (.ifCond .ge 18, 3) := by decide +kernel
theorem dX16_deliver_111 : decode cX16_deliver 111 = .ok (.aload_n 0, 1) := by decide +kernel
theorem dX16_deliver_112 : decode cX16_deliver 112 = .ok (.getfield 57, 3) := by decide +kernel
theorem dX16_deliver_115 : decode cX16_deliver 115 = .ok (.iconst 5, 1) := by decide +kernel
theorem dX16_deliver_116 : decode cX16_deliver 116 = .ok (.iload_n 1, 1) := by decide +kernel
theorem dX16_deliver_117 : decode cX16_deliver 117 = .ok (.imul, 1) := by decide +kernel
theorem dX16_deliver_118 : decode cX16_deliver 118 = .ok (.iconst 1, 1) := by decide +kernel
theorem dX16_deliver_119 : decode cX16_deliver 119 = .ok (.iadd, 1) := by decide +kernel
theorem dX16_deliver_120 : decode cX16_deliver 120 = .ok (.dup2, 1) := by decide +kernel
theorem dX16_deliver_121 : decode cX16_deliver 121 = .ok (.iaload, 1) := by decide +kernel
theorem dX16_deliver_122 : decode cX16_deliver 122 = .ok (.iconst 1, 1) := by decide +kernel
theorem dX16_deliver_123 : decode cX16_deliver 123 = .ok (.iadd, 1) := by decide +kernel
theorem dX16_deliver_124 : decode cX16_deliver 124 = .ok (.iastore, 1) := by decide +kernel
theorem dX16_deliver_125 : decode cX16_deliver 125 = .ok (.return_, 1) := by decide +kernel
theorem dX16_deliver_126 : decode cX16_deliver 126 = .ok (.aload_n 0, 1) := by decide +kernel
theorem dX16_deliver_127 : decode cX16_deliver 127 = .ok (.iload_n 1, 1) := by decide +kernel
theorem dX16_deliver_128 : decode cX16_deliver 128 = .ok (.aload_n 0, 1) := by decide +kernel
theorem dX16_deliver_129 : decode cX16_deliver 129 = .ok (.getfield 364, 3) := by decide +kernel
theorem dX16_deliver_132 : decode cX16_deliver 132 = .ok (.iconst 0, 1) := by decide +kernel
theorem dX16_deliver_133 : decode cX16_deliver 133 = .ok (.iload_n 2, 1) := by decide +kernel
theorem dX16_deliver_134 : decode cX16_deliver 134 = .ok (.invokevirtual 723, 3) := by decide +kernel
theorem dX16_deliver_137 : decode cX16_deliver 137 = .ok (.aload_n 0, 1) := by decide +kernel
theorem dX16_deliver_138 : decode cX16_deliver 138 = .ok (.getfield 137, 3) := by decide +kernel
theorem dX16_deliver_141 : decode cX16_deliver 141 = .ok (.iload_n 3, 1) := by decide +kernel
theorem dX16_deliver_142 : decode cX16_deliver 142 = .ok (.iconst 0, 1) := by decide +kernel
theorem dX16_deliver_143 : decode cX16_deliver 143 = .ok (.bastore, 1) := by decide +kernel
theorem dX16_deliver_144 : decode cX16_deliver 144 = .ok (.aload_n 0, 1) := by decide +kernel
theorem dX16_deliver_145 : decode cX16_deliver 145 = .ok (.getfield 158, 3) := by decide +kernel
theorem dX16_deliver_148 : decode cX16_deliver 148 = .ok (.iload_n 3, 1) := by decide +kernel
theorem dX16_deliver_149 : decode cX16_deliver 149 = .ok (.iaload, 1) := by decide +kernel
theorem dX16_deliver_150 : decode cX16_deliver 150 = .ok (.istore 4, 2) := by decide +kernel
theorem dX16_deliver_152 : decode cX16_deliver 152 = .ok (.iload 4, 2) := by decide +kernel
theorem dX16_deliver_154 : decode cX16_deliver 154 = .ok (.ifCond .lt 54, 3) := by decide +kernel
theorem dX16_deliver_157 : decode cX16_deliver 157 = .ok (.aload_n 0, 1) := by decide +kernel
theorem dX16_deliver_158 : decode cX16_deliver 158 = .ok (.getfield 225, 3) := by decide +kernel
theorem dX16_deliver_161 : decode cX16_deliver 161 = .ok (.iload 4, 2) := by decide +kernel
theorem dX16_deliver_163 : decode cX16_deliver 163 = .ok (.ifCond .ge 7, 3) := by decide +kernel
theorem dX16_deliver_166 : decode cX16_deliver 166 = .ok (.iconst 0, 1) := by decide +kernel
theorem dX16_deliver_167 : decode cX16_deliver 167 = .ok (.goto 5, 3) := by decide +kernel
theorem dX16_deliver_170 : decode cX16_deliver 170 = .ok (.iload 4, 2) := by decide +kernel
theorem dX16_deliver_172 : decode cX16_deliver 172 = .ok (.baload, 1) := by decide +kernel
theorem dX16_deliver_173 : decode cX16_deliver 173 = .ok (.ifCond .eq 35, 3) := by decide +kernel
theorem dX16_deliver_176 : decode cX16_deliver 176 = .ok (.aload_n 0, 1) := by decide +kernel
theorem dX16_deliver_177 : decode cX16_deliver 177 = .ok (.getfield 161, 3) := by decide +kernel
theorem dX16_deliver_180 : decode cX16_deliver 180 = .ok (.iload_n 3, 1) := by decide +kernel
theorem dX16_deliver_181 : decode cX16_deliver 181 = .ok (.iaload, 1) := by decide +kernel
theorem dX16_deliver_182 : decode cX16_deliver 182 = .ok (.aload_n 0, 1) := by decide +kernel
theorem dX16_deliver_183 : decode cX16_deliver 183 = .ok (.getfield 240, 3) := by decide +kernel
theorem dX16_deliver_186 : decode cX16_deliver 186 = .ok (.iload 4, 2) := by decide +kernel
theorem dX16_deliver_188 : decode cX16_deliver 188 = .ok (.ifCond .ge 7, 3) := by decide +kernel
theorem dX16_deliver_191 : decode cX16_deliver 191 = .ok (.iconst 0, 1) := by decide +kernel
theorem dX16_deliver_192 : decode cX16_deliver 192 = .ok (.goto 5, 3) := by decide +kernel
theorem dX16_deliver_195 : decode cX16_deliver 195 = .ok (.iload 4, 2) := by decide +kernel
theorem dX16_deliver_197 : decode cX16_deliver 197 = .ok (.iaload, 1) := by decide +kernel
theorem dX16_deliver_198 : decode cX16_deliver 198 = .ok (.if_icmp .ne 10, 3) := by decide +kernel
theorem dX16_deliver_201 : decode cX16_deliver 201 = .ok (.aload_n 0, 1) := by decide +kernel
theorem dX16_deliver_202 : decode cX16_deliver 202 = .ok (.iload 4, 2) := by decide +kernel
theorem dX16_deliver_204 : decode cX16_deliver 204 = .ok (.iload_n 3, 1) := by decide +kernel
theorem dX16_deliver_205 : decode cX16_deliver 205 = .ok (.invokevirtual 777, 3) := by decide +kernel
theorem dX16_deliver_208 : decode cX16_deliver 208 = .ok (.return_, 1) := by decide +kernel
def j_X16_deliver_208 (V : VV) : Option (VV) :=
  some V
def j_X16_deliver_197 (x3 x4 y0 y2 : Int) (V : VV) : Option (VV) :=
  (l2 231 44 y2 V).bind fun v1 =>
  if w32 y0 = w32 v1 then
    (f_X16_answered x4 x3 V).bind fun V1 =>
    j_X16_deliver_208 V1
  else
    j_X16_deliver_208 V
def j_X16_deliver_172 (x3 x4 y1 : Int) (V : VV) : Option (VV) :=
  (l2 226 44 y1 V).bind fun v1 =>
  if w32 v1 = 0 then
    j_X16_deliver_208 V
  else
    (l2 205 1280 x3 V).bind fun v2 =>
    if w32 x4 < 0 then
      j_X16_deliver_197 x3 x4 v2 0 V
    else
      j_X16_deliver_197 x3 x4 v2 x4 V
def j_X16_deliver_91 (x1 x2 : Int) (V : VV) : Option (VV) :=
  (f_X16_answer x1 x2 V).bind fun V1 =>
  j_X16_deliver_208 V1
def f_X16_deliver (x1 x2 : Int) (V : VV) : Option (VV) :=
  (l2 172 160 ((5 * x1) + 4) V).bind fun v1 =>
  (s2 172 160 ((5 * x1) + 4) (v1 + 1) V).bind fun V1 =>
  (f_X16_wellFormed V1).bind fun v2 =>
  if w32 v2 = 0 then
    (l2 172 160 (5 * x1) V1).bind fun v9 =>
    (s2 172 160 (5 * x1) (v9 + 1) V1).bind fun V8 =>
    some V8
  else
    (f_X16_keyAt 272 5 V1).bind fun V2 =>
    (l2 271 460 0 V2).bind fun v3 =>
    if w32 v3 = w32 15 then
      (f_X16_lose x1 272 0 x2 V2).bind fun V7 =>
      j_X16_deliver_208 V7
    else
      (l2 271 460 0 V2).bind fun v4 =>
      (rmi v4 2).bind fun v5 =>
      if w32 v5 = w32 1 then
        (f_X16_see x1 272 0 x2 V2).bind fun V6 =>
        j_X16_deliver_91 x1 x2 V6
      else
        (f_X16_awaited x1 x2 V2).bind fun v6 =>
        if w32 v6 < 0 then
          (l2 172 160 ((5 * x1) + 1) V2).bind fun v8 =>
          (s2 172 160 ((5 * x1) + 1) (v8 + 1) V2).bind fun V5 =>
          some V5
        else
          (f_X16_see x1 272 0 x2 V2).bind fun V3 =>
          (s2z 197 1280 v6 0 V3).bind fun V4 =>
          (l2 204 1280 v6 V4).bind fun v7 =>
          if w32 v7 < 0 then
            j_X16_deliver_208 V4
          else
            if w32 v7 < 0 then
              j_X16_deliver_172 v6 v7 0 V4
            else
              j_X16_deliver_172 v6 v7 v7 V4
theorem s_X16_deliver_208 {g : GG} {d : Nat} (hD : 10 ≤ d) {M : MM} (hM : LM M) {V : VV} {o : AV × MM} {P : (VV) → Prop} (r0 : ∀ r : VV, P r → o = ((9, 0), (wr M r))) {z : VV} (h : j_X16_deliver_208 V = some z) (hz : P z) : Sem g d YX16_deliver 208 [(9, 0), (9, 0), (9, 0), (9, 0), (9, 0)] [] (wr M V) o := by
  delta j_X16_deliver_208 at h
  obtain rfl := r0 _ (some_P (P := fun r => P r) h hz)
  exact S_return dX16_deliver_208 rfl
theorem s_X16_deliver_197 {g : GG} {d : Nat} (hD : 10 ≤ d) {x3 x4 y0 y2 : Int} {M : MM} (hM : LM M) {V : VV} {o : AV × MM} {P : (VV) → Prop} (r0 : ∀ r : VV, P r → o = ((9, 0), (wr M r))) {z : VV} (h : j_X16_deliver_197 x3 x4 y0 y2 V = some z) (hz : P z) : Sem g d YX16_deliver 197 [(1, 156), (9, 0), (9, 0), (0, x3), (0, x4)] [(0, y2), (1, 231), (0, y0)] (wr M V) o := by
  delta j_X16_deliver_197 at h
  refine P2_lai hM (a := 231) (n := 44) rfl dX16_deliver_197 h (fun v1 h => ?_)
  refine P_icmp_ne (tgt := 208) dX16_deliver_198 rfl h (fun h => ?_) (fun h => ?_)
  · refine S_weak (ls' := [(9, 0), (9, 0), (9, 0), (9, 0), (9, 0)]) ⟨Or.inl rfl, ⟨Or.inl rfl, ⟨Or.inl rfl, ⟨Or.inl rfl, ⟨Or.inl rfl, trivial⟩⟩⟩⟩⟩ ?_
    exact s_X16_deliver_208 hD hM r0 h hz
  · refine S_aload_n (i := 0) dX16_deliver_201 rfl rfl ?_
    refine S_iload dX16_deliver_202 rfl ?_
    refine S_iload_n (i := 3) dX16_deliver_204 rfl rfl ?_
    refine P2_invVm hM [(0, x4), (0, x3)] [] CVX16_answered MLX16_777 dX16_deliver_205 rfl rfl rfl rfl (by omega) h (fun r h => F_X16_answered (by omega) hM h) (fun V1 h => ?_)
    refine S_weak (ls' := [(9, 0), (9, 0), (9, 0), (9, 0), (9, 0)]) ⟨Or.inl rfl, ⟨Or.inl rfl, ⟨Or.inl rfl, ⟨Or.inl rfl, ⟨Or.inl rfl, trivial⟩⟩⟩⟩⟩ ?_
    exact s_X16_deliver_208 hD hM r0 h hz
theorem s_X16_deliver_172 {g : GG} {d : Nat} (hD : 10 ≤ d) {x3 x4 y1 : Int} {M : MM} (hM : LM M) {V : VV} {o : AV × MM} {P : (VV) → Prop} (r0 : ∀ r : VV, P r → o = ((9, 0), (wr M r))) {z : VV} (h : j_X16_deliver_172 x3 x4 y1 V = some z) (hz : P z) : Sem g d YX16_deliver 172 [(1, 156), (9, 0), (9, 0), (0, x3), (0, x4)] [(0, y1), (1, 226)] (wr M V) o := by
  delta j_X16_deliver_172 at h
  refine P2_laz hM (a := 226) (n := 44) rfl dX16_deliver_172 h (fun v1 h => ?_)
  refine P_if_eq (tgt := 208) dX16_deliver_173 rfl h (fun h => ?_) (fun h => ?_)
  · refine S_weak (ls' := [(9, 0), (9, 0), (9, 0), (9, 0), (9, 0)]) ⟨Or.inl rfl, ⟨Or.inl rfl, ⟨Or.inl rfl, ⟨Or.inl rfl, ⟨Or.inl rfl, trivial⟩⟩⟩⟩⟩ ?_
    exact s_X16_deliver_208 hD hM r0 h hz
  · refine S_aload_n (i := 0) dX16_deliver_176 rfl rfl ?_
    refine P2_gfr hM (a := 205) FLX16_161 rfl ⟨rfl, rfl⟩ dX16_deliver_177 ?_
    refine S_iload_n (i := 3) dX16_deliver_180 rfl rfl ?_
    refine P2_lai hM (a := 205) (n := 1280) rfl dX16_deliver_181 h (fun v2 h => ?_)
    refine S_aload_n (i := 0) dX16_deliver_182 rfl rfl ?_
    refine P2_gfr hM (a := 231) FLX16_240 rfl ⟨rfl, rfl⟩ dX16_deliver_183 ?_
    refine S_iload dX16_deliver_186 rfl ?_
    refine P_if_ge (tgt := 195) dX16_deliver_188 rfl h (fun h => ?_) (fun h => ?_)
    · refine S_iload dX16_deliver_195 rfl ?_
      exact s_X16_deliver_197 hD hM r0 h hz
    · refine S_iconst dX16_deliver_191 rfl ?_
      refine S_goto (tgt := 197) dX16_deliver_192 rfl ?_
      exact s_X16_deliver_197 hD hM r0 h hz
theorem s_X16_deliver_91 {g : GG} {d : Nat} (hD : 10 ≤ d) {x1 x2 : Int} {M : MM} (hM : LM M) {V : VV} {o : AV × MM} {P : (VV) → Prop} (r0 : ∀ r : VV, P r → o = ((9, 0), (wr M r))) {z : VV} (h : j_X16_deliver_91 x1 x2 V = some z) (hz : P z) : Sem g d YX16_deliver 91 [(1, 156), (0, x1), (0, x2), (9, 0), (9, 0)] [] (wr M V) o := by
  delta j_X16_deliver_91 at h
  refine S_aload_n (i := 0) dX16_deliver_91 rfl rfl ?_
  refine S_iload_n (i := 1) dX16_deliver_92 rfl rfl ?_
  refine S_iload_n (i := 2) dX16_deliver_93 rfl rfl ?_
  refine P2_invVm hM [(0, x1), (0, x2)] [] CVX16_answer MLX16_771 dX16_deliver_94 rfl rfl rfl rfl (by omega) h (fun r h => F_X16_answer (by omega) hM h) (fun V1 h => ?_)
  refine S_goto (tgt := 208) dX16_deliver_97 rfl ?_
  refine S_weak (ls' := [(9, 0), (9, 0), (9, 0), (9, 0), (9, 0)]) ⟨Or.inl rfl, ⟨Or.inl rfl, ⟨Or.inl rfl, ⟨Or.inl rfl, ⟨Or.inl rfl, trivial⟩⟩⟩⟩⟩ ?_
  exact s_X16_deliver_208 hD hM r0 h hz
theorem s_X16_deliver_0 {g : GG} {d : Nat} (hD : 10 ≤ d) {x1 x2 : Int} {M : MM} (hM : LM M) {V : VV} {o : AV × MM} {P : (VV) → Prop} (r0 : ∀ r : VV, P r → o = ((9, 0), (wr M r))) {z : VV} (h : f_X16_deliver x1 x2 V = some z) (hz : P z) : Sem g d YX16_deliver 0 [(1, 156), (0, x1), (0, x2), (9, 0), (9, 0)] [] (wr M V) o := by
  delta f_X16_deliver at h
  refine S_aload_n (i := 0) dX16_deliver_0 rfl rfl ?_
  refine P2_gfr hM (a := 172) FLX16_57 rfl ⟨rfl, rfl⟩ dX16_deliver_1 ?_
  refine S_iconst dX16_deliver_4 rfl ?_
  refine S_iload_n (i := 1) dX16_deliver_5 rfl rfl ?_
  refine S_imul dX16_deliver_6 ?_
  refine S_iconst dX16_deliver_7 rfl ?_
  refine S_iadd dX16_deliver_8 ?_
  refine S_dup2 dX16_deliver_9 (Nat.le_of_ble_eq_true rfl) (Nat.le_of_ble_eq_true rfl) ?_
  refine P2_lai hM (a := 172) (n := 160) rfl dX16_deliver_10 h (fun v1 h => ?_)
  refine S_iconst dX16_deliver_11 rfl ?_
  refine S_iadd dX16_deliver_12 ?_
  refine P2_sai hM (a := 172) (n := 160) rfl dX16_deliver_13 h (fun V1 h => ?_)
  refine S_aload_n (i := 0) dX16_deliver_14 rfl rfl ?_
  refine P2_invVp hM 0 [] [] CVX16_wellFormed MLX16_761 dX16_deliver_15 rfl rfl rfl rfl rfl (by omega) h (fun r h => F_X16_wellFormed (by omega) hM h) (fun v2 h => ?_)
  refine P_if_ne (tgt := 34) dX16_deliver_18 rfl h (fun h => ?_) (fun h => ?_)
  · refine S_aload_n (i := 0) dX16_deliver_34 rfl rfl ?_
    refine S_aload_n (i := 0) dX16_deliver_35 rfl rfl ?_
    refine P2_gfr hM (a := 272) FLX16_364 rfl ⟨rfl, rfl⟩ dX16_deliver_36 ?_
    refine S_iconst dX16_deliver_39 rfl ?_
    refine P2_invVm hM [(1, 272), (0, 5)] [] CVX16_keyAt MLX16_765 dX16_deliver_40 rfl rfl rfl rfl (by omega) h (fun r h => F_X16_keyAt (by omega) hM h) (fun V2 h => ?_)
    refine S_aload_n (i := 0) dX16_deliver_43 rfl rfl ?_
    refine P2_gfr hM (a := 271) FLX16_361 rfl ⟨rfl, rfl⟩ dX16_deliver_44 ?_
    refine S_iconst dX16_deliver_47 rfl ?_
    refine P2_lai hM (a := 271) (n := 460) rfl dX16_deliver_48 h (fun v3 h => ?_)
    refine S_bipush (z := 15) dX16_deliver_49 rfl ?_
    refine P_icmp_ne (tgt := 68) dX16_deliver_51 rfl h (fun h => ?_) (fun h => ?_)
    · refine S_aload_n (i := 0) dX16_deliver_68 rfl rfl ?_
      refine P2_gfr hM (a := 271) FLX16_361 rfl ⟨rfl, rfl⟩ dX16_deliver_69 ?_
      refine S_iconst dX16_deliver_72 rfl ?_
      refine P2_lai hM (a := 271) (n := 460) rfl dX16_deliver_73 h (fun v4 h => ?_)
      refine S_iconst dX16_deliver_74 rfl ?_
      refine P_rmi dX16_deliver_75 h (fun v5 h => ?_)
      refine S_iconst dX16_deliver_76 rfl ?_
      refine P_icmp_ne (tgt := 100) dX16_deliver_77 rfl h (fun h => ?_) (fun h => ?_)
      · refine S_aload_n (i := 0) dX16_deliver_100 rfl rfl ?_
        refine S_iload_n (i := 1) dX16_deliver_101 rfl rfl ?_
        refine S_iload_n (i := 2) dX16_deliver_102 rfl rfl ?_
        refine P2_invVp hM 0 [(0, x1), (0, x2)] [] CVX16_awaited MLX16_774 dX16_deliver_103 rfl rfl rfl rfl rfl (by omega) h (fun r h => F_X16_awaited (by omega) hM h) (fun v6 h => ?_)
        refine S_istore_n (i := 3) dX16_deliver_106 rfl (Nat.le_of_ble_eq_true rfl) rfl rfl ?_
        change Sem g d YX16_deliver 107 [(1, 156), (0, x1), (0, x2), (0, v6), (9, 0)] [] (wr M V2) o
        refine S_iload_n (i := 3) dX16_deliver_107 rfl rfl ?_
        refine P_if_ge (tgt := 126) dX16_deliver_108 rfl h (fun h => ?_) (fun h => ?_)
        · refine S_aload_n (i := 0) dX16_deliver_126 rfl rfl ?_
          refine S_iload_n (i := 1) dX16_deliver_127 rfl rfl ?_
          refine S_aload_n (i := 0) dX16_deliver_128 rfl rfl ?_
          refine P2_gfr hM (a := 272) FLX16_364 rfl ⟨rfl, rfl⟩ dX16_deliver_129 ?_
          refine S_iconst dX16_deliver_132 rfl ?_
          refine S_iload_n (i := 2) dX16_deliver_133 rfl rfl ?_
          refine P2_invVm hM [(0, x1), (1, 272), (0, 0), (0, x2)] [] CVX16_see MLX16_723 dX16_deliver_134 rfl rfl rfl rfl (by omega) h (fun r h => F_X16_see (by omega) hM h) (fun V3 h => ?_)
          refine S_aload_n (i := 0) dX16_deliver_137 rfl rfl ?_
          refine P2_gfr hM (a := 197) FLX16_137 rfl ⟨rfl, rfl⟩ dX16_deliver_138 ?_
          refine S_iload_n (i := 3) dX16_deliver_141 rfl rfl ?_
          refine S_iconst dX16_deliver_142 rfl ?_
          refine P2_saz hM (a := 197) (n := 1280) rfl dX16_deliver_143 h (fun V4 h => ?_)
          refine S_aload_n (i := 0) dX16_deliver_144 rfl rfl ?_
          refine P2_gfr hM (a := 204) FLX16_158 rfl ⟨rfl, rfl⟩ dX16_deliver_145 ?_
          refine S_iload_n (i := 3) dX16_deliver_148 rfl rfl ?_
          refine P2_lai hM (a := 204) (n := 1280) rfl dX16_deliver_149 h (fun v7 h => ?_)
          refine S_istore dX16_deliver_150 (Nat.le_of_ble_eq_true rfl) rfl rfl ?_
          change Sem g d YX16_deliver 152 [(1, 156), (0, x1), (0, x2), (0, v6), (0, v7)] [] (wr M V4) o
          refine S_iload dX16_deliver_152 rfl ?_
          refine P_if_lt (tgt := 208) dX16_deliver_154 rfl h (fun h => ?_) (fun h => ?_)
          · refine S_weak (ls' := [(9, 0), (9, 0), (9, 0), (9, 0), (9, 0)]) ⟨Or.inl rfl, ⟨Or.inl rfl, ⟨Or.inl rfl, ⟨Or.inl rfl, ⟨Or.inl rfl, trivial⟩⟩⟩⟩⟩ ?_
            exact s_X16_deliver_208 hD hM r0 h hz
          · refine S_aload_n (i := 0) dX16_deliver_157 rfl rfl ?_
            refine P2_gfr hM (a := 226) FLX16_225 rfl ⟨rfl, rfl⟩ dX16_deliver_158 ?_
            refine S_iload dX16_deliver_161 rfl ?_
            refine P_if_ge (tgt := 170) dX16_deliver_163 rfl h (fun h => ?_) (fun h => ?_)
            · refine S_iload dX16_deliver_170 rfl ?_
              refine S_weak (ls' := [(1, 156), (9, 0), (9, 0), (0, v6), (0, v7)]) ⟨Or.inr rfl, ⟨Or.inl rfl, ⟨Or.inl rfl, ⟨Or.inr rfl, ⟨Or.inr rfl, trivial⟩⟩⟩⟩⟩ ?_
              exact s_X16_deliver_172 hD hM r0 h hz
            · refine S_iconst dX16_deliver_166 rfl ?_
              refine S_goto (tgt := 172) dX16_deliver_167 rfl ?_
              refine S_weak (ls' := [(1, 156), (9, 0), (9, 0), (0, v6), (0, v7)]) ⟨Or.inr rfl, ⟨Or.inl rfl, ⟨Or.inl rfl, ⟨Or.inr rfl, ⟨Or.inr rfl, trivial⟩⟩⟩⟩⟩ ?_
              exact s_X16_deliver_172 hD hM r0 h hz
        · refine S_aload_n (i := 0) dX16_deliver_111 rfl rfl ?_
          refine P2_gfr hM (a := 172) FLX16_57 rfl ⟨rfl, rfl⟩ dX16_deliver_112 ?_
          refine S_iconst dX16_deliver_115 rfl ?_
          refine S_iload_n (i := 1) dX16_deliver_116 rfl rfl ?_
          refine S_imul dX16_deliver_117 ?_
          refine S_iconst dX16_deliver_118 rfl ?_
          refine S_iadd dX16_deliver_119 ?_
          refine S_dup2 dX16_deliver_120 (Nat.le_of_ble_eq_true rfl) (Nat.le_of_ble_eq_true rfl) ?_
          refine P2_lai hM (a := 172) (n := 160) rfl dX16_deliver_121 h (fun v8 h => ?_)
          refine S_iconst dX16_deliver_122 rfl ?_
          refine S_iadd dX16_deliver_123 ?_
          refine P2_sai hM (a := 172) (n := 160) rfl dX16_deliver_124 h (fun V5 h => ?_)
          obtain rfl := r0 _ (some_P (P := fun r => P r) h hz)
          exact S_return dX16_deliver_125 rfl
      · refine S_aload_n (i := 0) dX16_deliver_80 rfl rfl ?_
        refine S_iload_n (i := 1) dX16_deliver_81 rfl rfl ?_
        refine S_aload_n (i := 0) dX16_deliver_82 rfl rfl ?_
        refine P2_gfr hM (a := 272) FLX16_364 rfl ⟨rfl, rfl⟩ dX16_deliver_83 ?_
        refine S_iconst dX16_deliver_86 rfl ?_
        refine S_iload_n (i := 2) dX16_deliver_87 rfl rfl ?_
        refine P2_invVm hM [(0, x1), (1, 272), (0, 0), (0, x2)] [] CVX16_see MLX16_723 dX16_deliver_88 rfl rfl rfl rfl (by omega) h (fun r h => F_X16_see (by omega) hM h) (fun V6 h => ?_)
        exact s_X16_deliver_91 hD hM r0 h hz
    · refine S_aload_n (i := 0) dX16_deliver_54 rfl rfl ?_
      refine S_iload_n (i := 1) dX16_deliver_55 rfl rfl ?_
      refine S_aload_n (i := 0) dX16_deliver_56 rfl rfl ?_
      refine P2_gfr hM (a := 272) FLX16_364 rfl ⟨rfl, rfl⟩ dX16_deliver_57 ?_
      refine S_iconst dX16_deliver_60 rfl ?_
      refine S_iload_n (i := 2) dX16_deliver_61 rfl rfl ?_
      refine P2_invVm hM [(0, x1), (1, 272), (0, 0), (0, x2)] [] CVX16_lose MLX16_768 dX16_deliver_62 rfl rfl rfl rfl (by omega) h (fun r h => F_X16_lose (by omega) hM h) (fun V7 h => ?_)
      refine S_goto (tgt := 208) dX16_deliver_65 rfl ?_
      refine S_weak (ls' := [(9, 0), (9, 0), (9, 0), (9, 0), (9, 0)]) ⟨Or.inl rfl, ⟨Or.inl rfl, ⟨Or.inl rfl, ⟨Or.inl rfl, ⟨Or.inl rfl, trivial⟩⟩⟩⟩⟩ ?_
      exact s_X16_deliver_208 hD hM r0 h hz
  · refine S_aload_n (i := 0) dX16_deliver_21 rfl rfl ?_
    refine P2_gfr hM (a := 172) FLX16_57 rfl ⟨rfl, rfl⟩ dX16_deliver_22 ?_
    refine S_iconst dX16_deliver_25 rfl ?_
    refine S_iload_n (i := 1) dX16_deliver_26 rfl rfl ?_
    refine S_imul dX16_deliver_27 ?_
    refine S_dup2 dX16_deliver_28 (Nat.le_of_ble_eq_true rfl) (Nat.le_of_ble_eq_true rfl) ?_
    refine P2_lai hM (a := 172) (n := 160) rfl dX16_deliver_29 h (fun v9 h => ?_)
    refine S_iconst dX16_deliver_30 rfl ?_
    refine S_iadd dX16_deliver_31 ?_
    refine P2_sai hM (a := 172) (n := 160) rfl dX16_deliver_32 h (fun V8 h => ?_)
    obtain rfl := r0 _ (some_P (P := fun r => P r) h hz)
    exact S_return dX16_deliver_33 rfl
theorem F_X16_deliver {g : GG} {d : Nat} (hD : 10 ≤ d) {x1 x2 : Int} {M : MM} (hM : LM M) {V : VV} {r : VV} (h : f_X16_deliver x1 x2 V = some r) : Sem g d YX16_deliver 0 (ini YX16_deliver [(1, 156), (0, x1), (0, x2)]) [] (wr M V) ((9, 0), (wr M r)) := by
  change Sem g d YX16_deliver 0 [(1, 156), (0, x1), (0, x2), (9, 0), (9, 0)] [] (wr M V) ((9, 0), (wr M r))
  exact s_X16_deliver_0 hD hM (P := fun x => x = r) (fun q e => by rw [e]) h rfl
/-! PeerSearchModel.expire(I)V -/
theorem dX16_expire_0 : decode cX16_expire 0 = .ok (.iconst 0, 1) := by decide +kernel
theorem dX16_expire_1 : decode cX16_expire 1 = .ok (.istore_n 2, 1) := by decide +kernel
theorem dX16_expire_2 : decode cX16_expire 2 = .ok (.sipush 200, 3) := by decide +kernel
theorem dX16_expire_5 : decode cX16_expire 5 = .ok (.iload_n 1, 1) := by decide +kernel
theorem dX16_expire_6 : decode cX16_expire 6 = .ok (.imul, 1) := by decide +kernel
theorem dX16_expire_7 : decode cX16_expire 7 = .ok (.istore_n 3, 1) := by decide +kernel
theorem dX16_expire_8 : decode cX16_expire 8 = .ok (.iload_n 3, 1) := by decide +kernel
theorem dX16_expire_9 : decode cX16_expire 9 = .ok (.sipush 200, 3) := by decide +kernel
theorem dX16_expire_12 : decode cX16_expire 12 = .ok (.iload_n 1, 1) := by decide +kernel
theorem dX16_expire_13 : decode cX16_expire 13 = .ok (.imul, 1) := by decide +kernel
theorem dX16_expire_14 : decode cX16_expire 14 = .ok (.aload_n 0, 1) := by decide +kernel
theorem dX16_expire_15 : decode cX16_expire 15 = .ok (.getfield 177, 3) := by decide +kernel
theorem dX16_expire_18 : decode cX16_expire 18 = .ok (.iload_n 1, 1) := by decide +kernel
theorem dX16_expire_19 : decode cX16_expire 19 = .ok (.iaload, 1) := by decide +kernel
theorem dX16_expire_20 : decode cX16_expire 20 = .ok (.iadd, 1) := by decide +kernel
theorem dX16_expire_21 : decode cX16_expire 21 = .ok (.if_icmp .ge 104, 3) := by decide +kernel
theorem dX16_expire_24 : decode cX16_expire 24 = .ok (.aload_n 0, 1) := by decide +kernel
theorem dX16_expire_25 : decode cX16_expire 25 = .ok (.getfield 192, 3) := by decide +kernel
theorem dX16_expire_28 : decode cX16_expire 28 = .ok (.iload_n 3, 1) := by decide +kernel
theorem dX16_expire_29 : decode cX16_expire 29 = .ok (.iaload, 1) := by decide +kernel
theorem dX16_expire_30 : decode cX16_expire 30 = .ok (.aload_n 0, 1) := by decide +kernel
theorem dX16_expire_31 : decode cX16_expire 31 = .ok (.getfield 483, 3) := by decide +kernel
theorem dX16_expire_34 : decode cX16_expire 34 = .ok (.if_icmp .le 85, 3) := by decide +kernel
theorem dX16_expire_37 : decode cX16_expire 37 = .ok (.sipush 200, 3) := by decide +kernel
theorem dX16_expire_40 : decode cX16_expire 40 = .ok (.iload_n 1, 1) := by decide +kernel
theorem dX16_expire_41 : decode cX16_expire 41 = .ok (.imul, 1) := by decide +kernel
theorem dX16_expire_42 : decode cX16_expire 42 = .ok (.iload_n 2, 1) := by decide +kernel
theorem dX16_expire_43 : decode cX16_expire 43 = .ok (.iadd, 1) := by decide +kernel
theorem dX16_expire_44 : decode cX16_expire 44 = .ok (.istore 4, 2) := by decide +kernel
theorem dX16_expire_46 : decode cX16_expire 46 = .ok (.iinc 2 1, 3) := by decide +kernel
theorem dX16_expire_49 : decode cX16_expire 49 = .ok (.aload_n 0, 1) := by decide +kernel
theorem dX16_expire_50 : decode cX16_expire 50 = .ok (.getfield 180, 3) := by decide +kernel
theorem dX16_expire_53 : decode cX16_expire 53 = .ok (.iconst 5, 1) := by decide +kernel
theorem dX16_expire_54 : decode cX16_expire 54 = .ok (.iload 4, 2) := by decide +kernel
theorem dX16_expire_56 : decode cX16_expire 56 = .ok (.imul, 1) := by decide +kernel
theorem dX16_expire_57 : decode cX16_expire 57 = .ok (.aload_n 0, 1) := by decide +kernel
theorem dX16_expire_58 : decode cX16_expire 58 = .ok (.getfield 180, 3) := by decide +kernel
theorem dX16_expire_61 : decode cX16_expire 61 = .ok (.iconst 5, 1) := by decide +kernel
theorem dX16_expire_62 : decode cX16_expire 62 = .ok (.iload_n 3, 1) := by decide +kernel
theorem dX16_expire_63 : decode cX16_expire 63 = .ok (.imul, 1) := by decide +kernel
theorem dX16_expire_64 : decode cX16_expire 64 = .ok (.invokestatic 438, 3) := by decide +kernel
theorem dX16_expire_67 : decode cX16_expire 67 = .ok (.aload_n 0, 1) := by decide +kernel
theorem dX16_expire_68 : decode cX16_expire 68 = .ok (.getfield 183, 3) := by decide +kernel
theorem dX16_expire_71 : decode cX16_expire 71 = .ok (.iload 4, 2) := by decide +kernel
theorem dX16_expire_73 : decode cX16_expire 73 = .ok (.aload_n 0, 1) := by decide +kernel
theorem dX16_expire_74 : decode cX16_expire 74 = .ok (.getfield 183, 3) := by decide +kernel
theorem dX16_expire_77 : decode cX16_expire 77 = .ok (.iload_n 3, 1) := by decide +kernel
theorem dX16_expire_78 : decode cX16_expire 78 = .ok (.iaload, 1) := by decide +kernel
theorem dX16_expire_79 : decode cX16_expire 79 = .ok (.iastore, 1) := by decide +kernel
theorem dX16_expire_80 : decode cX16_expire 80 = .ok (.aload_n 0, 1) := by decide +kernel
theorem dX16_expire_81 : decode cX16_expire 81 = .ok (.getfield 186, 3) := by decide +kernel
theorem dX16_expire_84 : decode cX16_expire 84 = .ok (.iload 4, 2) := by decide +kernel
theorem dX16_expire_86 : decode cX16_expire 86 = .ok (.aload_n 0, 1) := by decide +kernel
theorem dX16_expire_87 : decode cX16_expire 87 = .ok (.getfield 186, 3) := by decide +kernel
theorem dX16_expire_90 : decode cX16_expire 90 = .ok (.iload_n 3, 1) := by decide +kernel
theorem dX16_expire_91 : decode cX16_expire 91 = .ok (.iaload, 1) := by decide +kernel
theorem dX16_expire_92 : decode cX16_expire 92 = .ok (.iastore, 1) := by decide +kernel
theorem dX16_expire_93 : decode cX16_expire 93 = .ok (.aload_n 0, 1) := by decide +kernel
theorem dX16_expire_94 : decode cX16_expire 94 = .ok (.getfield 189, 3) := by decide +kernel
theorem dX16_expire_97 : decode cX16_expire 97 = .ok (.iload 4, 2) := by decide +kernel
theorem dX16_expire_99 : decode cX16_expire 99 = .ok (.aload_n 0, 1) := by decide +kernel
theorem dX16_expire_100 : decode cX16_expire 100 = .ok (.getfield 189, 3) := by decide +kernel
theorem dX16_expire_103 : decode cX16_expire 103 = .ok (.iload_n 3, 1) := by decide +kernel
theorem dX16_expire_104 : decode cX16_expire 104 = .ok (.iaload, 1) := by decide +kernel
theorem dX16_expire_105 : decode cX16_expire 105 = .ok (.iastore, 1) := by decide +kernel
theorem dX16_expire_106 : decode cX16_expire 106 = .ok (.aload_n 0, 1) := by decide +kernel
theorem dX16_expire_107 : decode cX16_expire 107 = .ok (.getfield 192, 3) := by decide +kernel
theorem dX16_expire_110 : decode cX16_expire 110 = .ok (.iload 4, 2) := by decide +kernel
theorem dX16_expire_112 : decode cX16_expire 112 = .ok (.aload_n 0, 1) := by decide +kernel
theorem dX16_expire_113 : decode cX16_expire 113 = .ok (.getfield 192, 3) := by decide +kernel
theorem dX16_expire_116 : decode cX16_expire 116 = .ok (.iload_n 3, 1) := by decide +kernel
theorem dX16_expire_117 : decode cX16_expire 117 = .ok (.iaload, 1) := by decide +kernel
theorem dX16_expire_118 : decode cX16_expire 118 = .ok (.iastore, 1) := by decide +kernel
theorem dX16_expire_119 : decode cX16_expire 119 = .ok (.iinc 3 1, 3) := by decide +kernel
theorem dX16_expire_122 : decode cX16_expire 122 = .ok (.goto (-114), 3) := by decide +kernel
theorem dX16_expire_125 : decode cX16_expire 125 = .ok (.aload_n 0, 1) := by decide +kernel
theorem dX16_expire_126 : decode cX16_expire 126 = .ok (.getfield 177, 3) := by decide +kernel
theorem dX16_expire_129 : decode cX16_expire 129 = .ok (.iload_n 1, 1) := by decide +kernel
theorem dX16_expire_130 : decode cX16_expire 130 = .ok (.iload_n 2, 1) := by decide +kernel
theorem dX16_expire_131 : decode cX16_expire 131 = .ok (.iastore, 1) := by decide +kernel
theorem dX16_expire_132 : decode cX16_expire 132 = .ok (.return_, 1) := by decide +kernel
def j_X16_expire_125 (x1 x2 : Int) (V : VV) : Option (VV) :=
  (s2 210 32 x1 x2 V).bind fun V1 =>
  some V1
def j_X16_expire_119 (x1 x2 x3 : Int) (V : VV) : Option ((Int × Int × VV) ⊕ (VV)) :=
  cnt (x2, x3 + 1, V)
def b_X16_expire_8 (x1 x2 x3 : Int) (V : VV) : Option ((Int × Int × VV) ⊕ (VV)) :=
  (l2 210 32 x1 V).bind fun v1 =>
  if w32 x3 < w32 ((200 * x1) + v1) then
    (l2 215 6400 x3 V).bind fun v2 =>
    if w32 (w32 (V 156 11)) < w32 v2 then
      (f_X16_put 211 (5 * ((200 * x1) + x2)) 211 (5 * x3) V).bind fun V1 =>
      (l2 212 6400 x3 V1).bind fun v3 =>
      (s2 212 6400 ((200 * x1) + x2) v3 V1).bind fun V2 =>
      (l2 213 6400 x3 V2).bind fun v4 =>
      (s2 213 6400 ((200 * x1) + x2) v4 V2).bind fun V3 =>
      (l2 214 6400 x3 V3).bind fun v5 =>
      (s2 214 6400 ((200 * x1) + x2) v5 V3).bind fun V4 =>
      (l2 215 6400 x3 V4).bind fun v6 =>
      (s2 215 6400 ((200 * x1) + x2) v6 V4).bind fun V5 =>
      j_X16_expire_119 x1 (x2 + 1) x3 V5
    else
      j_X16_expire_119 x1 x2 x3 V
  else
    xit (j_X16_expire_125 x1 x2 V)
def l_X16_expire_8 (x1 x2 x3 : Int) (V : VV) : Option (VV) := lpN (fun s : Int × Int × VV => b_X16_expire_8 x1 s.1 s.2.1 s.2.2) FU (x2, x3, V)
def f_X16_expire (x1 : Int) (V : VV) : Option (VV) :=
  l_X16_expire_8 x1 0 (200 * x1) V
theorem s_X16_expire_125 {g : GG} {d : Nat} (hD : 1 ≤ d) {x1 x2 : Int} {M : MM} (hM : LM M) {V : VV} {o : AV × MM} {P : (VV) → Prop} (r0 : ∀ r : VV, P r → o = ((9, 0), (wr M r))) {z : VV} (h : j_X16_expire_125 x1 x2 V = some z) (hz : P z) : Sem g d YX16_expire 125 [(1, 156), (0, x1), (0, x2), (9, 0), (9, 0)] [] (wr M V) o := by
  delta j_X16_expire_125 at h
  refine S_aload_n (i := 0) dX16_expire_125 rfl rfl ?_
  refine P2_gfr hM (a := 210) FLX16_177 rfl ⟨rfl, rfl⟩ dX16_expire_126 ?_
  refine S_iload_n (i := 1) dX16_expire_129 rfl rfl ?_
  refine S_iload_n (i := 2) dX16_expire_130 rfl rfl ?_
  refine P2_sai hM (a := 210) (n := 32) rfl dX16_expire_131 h (fun V1 h => ?_)
  obtain rfl := r0 _ (some_P (P := fun r => P r) h hz)
  exact S_return dX16_expire_132 rfl
theorem s_X16_expire_119 {g : GG} {d : Nat} (hD : 1 ≤ d) {x1 x2 x3 : Int} {M : MM} (hM : LM M) {V : VV} {o : AV × MM} {P : ((Int × Int × VV) ⊕ (VV)) → Prop} (c0 : ∀ s : Int × Int × VV, P (.inl s) → Sem g d YX16_expire 8 [(1, 156), (0, x1), (0, s.1), (0, s.2.1), (9, 0)] [] (wr M s.2.2) o) (r0 : ∀ r : VV, P (.inr r) → o = ((9, 0), (wr M r))) {z : (Int × Int × VV) ⊕ (VV)} (h : j_X16_expire_119 x1 x2 x3 V = some z) (hz : P z) : Sem g d YX16_expire 119 [(1, 156), (0, x1), (0, x2), (0, x3), (9, 0)] [] (wr M V) o := by
  delta j_X16_expire_119 at h
  refine S_iinc dX16_expire_119 rfl rfl rfl ?_
  change Sem g d YX16_expire 122 [(1, 156), (0, x1), (0, x2), (0, x3 + 1), (9, 0)] [] (wr M V) o
  refine S_goto (tgt := 8) dX16_expire_122 rfl ?_
  exact c0 (x2, x3 + 1, V) (some_P (P := fun r => P r) h hz)
theorem s_X16_expire_8 {g : GG} {d : Nat} (hD : 1 ≤ d) {x1 x2 x3 : Int} {M : MM} (hM : LM M) {V : VV} {o : AV × MM} {P : ((Int × Int × VV) ⊕ (VV)) → Prop} (c0 : ∀ s : Int × Int × VV, P (.inl s) → Sem g d YX16_expire 8 [(1, 156), (0, x1), (0, s.1), (0, s.2.1), (9, 0)] [] (wr M s.2.2) o) (r0 : ∀ r : VV, P (.inr r) → o = ((9, 0), (wr M r))) {z : (Int × Int × VV) ⊕ (VV)} (h : b_X16_expire_8 x1 x2 x3 V = some z) (hz : P z) : Sem g d YX16_expire 8 [(1, 156), (0, x1), (0, x2), (0, x3), (9, 0)] [] (wr M V) o := by
  delta b_X16_expire_8 at h
  refine S_iload_n (i := 3) dX16_expire_8 rfl rfl ?_
  refine S_sipush (z := 200) dX16_expire_9 rfl ?_
  refine S_iload_n (i := 1) dX16_expire_12 rfl rfl ?_
  refine S_imul dX16_expire_13 ?_
  refine S_aload_n (i := 0) dX16_expire_14 rfl rfl ?_
  refine P2_gfr hM (a := 210) FLX16_177 rfl ⟨rfl, rfl⟩ dX16_expire_15 ?_
  refine S_iload_n (i := 1) dX16_expire_18 rfl rfl ?_
  refine P2_lai hM (a := 210) (n := 32) rfl dX16_expire_19 h (fun v1 h => ?_)
  refine S_iadd dX16_expire_20 ?_
  refine P_icmp_ge (tgt := 125) dX16_expire_21 rfl h (fun h => ?_) (fun h => ?_)
  · refine S_weak (ls' := [(1, 156), (0, x1), (0, x2), (9, 0), (9, 0)]) ⟨Or.inr rfl, ⟨Or.inr rfl, ⟨Or.inr rfl, ⟨Or.inl rfl, ⟨Or.inl rfl, trivial⟩⟩⟩⟩⟩ ?_
    obtain ⟨z0, h, hz⟩ := xit_some' (P := fun r => P r) h hz
    exact s_X16_expire_125 hD hM (P := fun r => P (.inr r)) r0 h hz
  · refine S_aload_n (i := 0) dX16_expire_24 rfl rfl ?_
    refine P2_gfr hM (a := 215) FLX16_192 rfl ⟨rfl, rfl⟩ dX16_expire_25 ?_
    refine S_iload_n (i := 3) dX16_expire_28 rfl rfl ?_
    refine P2_lai hM (a := 215) (n := 6400) rfl dX16_expire_29 h (fun v2 h => ?_)
    refine S_aload_n (i := 0) dX16_expire_30 rfl rfl ?_
    refine P2_gfi hM FLX16_483 rfl dX16_expire_31 ?_
    refine P_icmp_le (tgt := 119) dX16_expire_34 rfl h (fun h => ?_) (fun h => ?_)
    · exact s_X16_expire_119 hD hM c0 r0 h hz
    · refine S_sipush (z := 200) dX16_expire_37 rfl ?_
      refine S_iload_n (i := 1) dX16_expire_40 rfl rfl ?_
      refine S_imul dX16_expire_41 ?_
      refine S_iload_n (i := 2) dX16_expire_42 rfl rfl ?_
      refine S_iadd dX16_expire_43 ?_
      refine S_istore dX16_expire_44 (Nat.le_of_ble_eq_true rfl) rfl rfl ?_
      change Sem g d YX16_expire 46 [(1, 156), (0, x1), (0, x2), (0, x3), (0, (200 * x1) + x2)] [] (wr M V) o
      refine S_iinc dX16_expire_46 rfl rfl rfl ?_
      change Sem g d YX16_expire 49 [(1, 156), (0, x1), (0, x2 + 1), (0, x3), (0, (200 * x1) + x2)] [] (wr M V) o
      refine S_aload_n (i := 0) dX16_expire_49 rfl rfl ?_
      refine P2_gfr hM (a := 211) FLX16_180 rfl ⟨rfl, rfl⟩ dX16_expire_50 ?_
      refine S_iconst dX16_expire_53 rfl ?_
      refine S_iload dX16_expire_54 rfl ?_
      refine S_imul dX16_expire_56 ?_
      refine S_aload_n (i := 0) dX16_expire_57 rfl rfl ?_
      refine P2_gfr hM (a := 211) FLX16_180 rfl ⟨rfl, rfl⟩ dX16_expire_58 ?_
      refine S_iconst dX16_expire_61 rfl ?_
      refine S_iload_n (i := 3) dX16_expire_62 rfl rfl ?_
      refine S_imul dX16_expire_63 ?_
      refine P2_invSm hM [(1, 211), (0, 5 * ((200 * x1) + x2)), (1, 211), (0, 5 * x3)] [] CSX16_put MLX16_438 dX16_expire_64 rfl rfl rfl rfl (by omega) h (fun r h => F_X16_put (by omega) hM h) (fun V1 h => ?_)
      refine S_aload_n (i := 0) dX16_expire_67 rfl rfl ?_
      refine P2_gfr hM (a := 212) FLX16_183 rfl ⟨rfl, rfl⟩ dX16_expire_68 ?_
      refine S_iload dX16_expire_71 rfl ?_
      refine S_aload_n (i := 0) dX16_expire_73 rfl rfl ?_
      refine P2_gfr hM (a := 212) FLX16_183 rfl ⟨rfl, rfl⟩ dX16_expire_74 ?_
      refine S_iload_n (i := 3) dX16_expire_77 rfl rfl ?_
      refine P2_lai hM (a := 212) (n := 6400) rfl dX16_expire_78 h (fun v3 h => ?_)
      refine P2_sai hM (a := 212) (n := 6400) rfl dX16_expire_79 h (fun V2 h => ?_)
      refine S_aload_n (i := 0) dX16_expire_80 rfl rfl ?_
      refine P2_gfr hM (a := 213) FLX16_186 rfl ⟨rfl, rfl⟩ dX16_expire_81 ?_
      refine S_iload dX16_expire_84 rfl ?_
      refine S_aload_n (i := 0) dX16_expire_86 rfl rfl ?_
      refine P2_gfr hM (a := 213) FLX16_186 rfl ⟨rfl, rfl⟩ dX16_expire_87 ?_
      refine S_iload_n (i := 3) dX16_expire_90 rfl rfl ?_
      refine P2_lai hM (a := 213) (n := 6400) rfl dX16_expire_91 h (fun v4 h => ?_)
      refine P2_sai hM (a := 213) (n := 6400) rfl dX16_expire_92 h (fun V3 h => ?_)
      refine S_aload_n (i := 0) dX16_expire_93 rfl rfl ?_
      refine P2_gfr hM (a := 214) FLX16_189 rfl ⟨rfl, rfl⟩ dX16_expire_94 ?_
      refine S_iload dX16_expire_97 rfl ?_
      refine S_aload_n (i := 0) dX16_expire_99 rfl rfl ?_
      refine P2_gfr hM (a := 214) FLX16_189 rfl ⟨rfl, rfl⟩ dX16_expire_100 ?_
      refine S_iload_n (i := 3) dX16_expire_103 rfl rfl ?_
      refine P2_lai hM (a := 214) (n := 6400) rfl dX16_expire_104 h (fun v5 h => ?_)
      refine P2_sai hM (a := 214) (n := 6400) rfl dX16_expire_105 h (fun V4 h => ?_)
      refine S_aload_n (i := 0) dX16_expire_106 rfl rfl ?_
      refine P2_gfr hM (a := 215) FLX16_192 rfl ⟨rfl, rfl⟩ dX16_expire_107 ?_
      refine S_iload dX16_expire_110 rfl ?_
      refine S_aload_n (i := 0) dX16_expire_112 rfl rfl ?_
      refine P2_gfr hM (a := 215) FLX16_192 rfl ⟨rfl, rfl⟩ dX16_expire_113 ?_
      refine S_iload_n (i := 3) dX16_expire_116 rfl rfl ?_
      refine P2_lai hM (a := 215) (n := 6400) rfl dX16_expire_117 h (fun v6 h => ?_)
      refine P2_sai hM (a := 215) (n := 6400) rfl dX16_expire_118 h (fun V5 h => ?_)
      refine S_weak (ls' := [(1, 156), (0, x1), (0, x2 + 1), (0, x3), (9, 0)]) ⟨Or.inr rfl, ⟨Or.inr rfl, ⟨Or.inr rfl, ⟨Or.inr rfl, ⟨Or.inl rfl, trivial⟩⟩⟩⟩⟩ ?_
      exact s_X16_expire_119 hD hM c0 r0 h hz
theorem sl_X16_expire_8 {g : GG} {d : Nat} (hD : 1 ≤ d) {x1 x2 x3 : Int} {M : MM} (hM : LM M) {V : VV} {o : AV × MM} {P : (VV) → Prop} (r0 : ∀ r : VV, P r → o = ((9, 0), (wr M r))) {z : VV} (h : l_X16_expire_8 x1 x2 x3 V = some z) (hz : P z) : Sem g d YX16_expire 8 [(1, 156), (0, x1), (0, x2), (0, x3), (9, 0)] [] (wr M V) o := by
  refine lp_sound (S := fun s : Int × Int × VV => Sem g d YX16_expire 8 [(1, 156), (0, x1), (0, s.1), (0, s.2.1), (9, 0)] [] (wr M s.2.2) o) (P := P) ?_ FU (x2, x3, V) z h hz
  intro s x hx hP
  exact s_X16_expire_8 hD hM (P := Sum.elim (fun s : Int × Int × VV => Sem g d YX16_expire 8 [(1, 156), (0, x1), (0, s.1), (0, s.2.1), (9, 0)] [] (wr M s.2.2) o) P) (fun s h => h) (fun s h => r0 s h) hx hP
theorem s_X16_expire_0 {g : GG} {d : Nat} (hD : 1 ≤ d) {x1 : Int} {M : MM} (hM : LM M) {V : VV} {o : AV × MM} {P : (VV) → Prop} (r0 : ∀ r : VV, P r → o = ((9, 0), (wr M r))) {z : VV} (h : f_X16_expire x1 V = some z) (hz : P z) : Sem g d YX16_expire 0 [(1, 156), (0, x1), (9, 0), (9, 0), (9, 0)] [] (wr M V) o := by
  delta f_X16_expire at h
  refine S_iconst dX16_expire_0 rfl ?_
  refine S_istore_n (i := 2) dX16_expire_1 rfl (Nat.le_of_ble_eq_true rfl) rfl rfl ?_
  change Sem g d YX16_expire 2 [(1, 156), (0, x1), (0, 0), (9, 0), (9, 0)] [] (wr M V) o
  refine S_sipush (z := 200) dX16_expire_2 rfl ?_
  refine S_iload_n (i := 1) dX16_expire_5 rfl rfl ?_
  refine S_imul dX16_expire_6 ?_
  refine S_istore_n (i := 3) dX16_expire_7 rfl (Nat.le_of_ble_eq_true rfl) rfl rfl ?_
  change Sem g d YX16_expire 8 [(1, 156), (0, x1), (0, 0), (0, 200 * x1), (9, 0)] [] (wr M V) o
  exact sl_X16_expire_8 hD hM r0 h hz
theorem F_X16_expire {g : GG} {d : Nat} (hD : 1 ≤ d) {x1 : Int} {M : MM} (hM : LM M) {V : VV} {r : VV} (h : f_X16_expire x1 V = some r) : Sem g d YX16_expire 0 (ini YX16_expire [(1, 156), (0, x1)]) [] (wr M V) ((9, 0), (wr M r)) := by
  change Sem g d YX16_expire 0 [(1, 156), (0, x1), (9, 0), (9, 0), (9, 0)] [] (wr M V) ((9, 0), (wr M r))
  exact s_X16_expire_0 hD hM (P := fun x => x = r) (fun q e => by rw [e]) h rfl
/-! PeerSearchModel.land(I)V -/
theorem dX16_land_0 : decode cX16_land 0 = .ok (.aload_n 0, 1) := by decide +kernel
theorem dX16_land_1 : decode cX16_land 1 = .ok (.dup, 1) := by decide +kernel
theorem dX16_land_2 : decode cX16_land 2 = .ok (.getfield 464, 3) := by decide +kernel
theorem dX16_land_5 : decode cX16_land 5 = .ok (.iconst 1, 1) := by decide +kernel
theorem dX16_land_6 : decode cX16_land 6 = .ok (.isub, 1) := by decide +kernel
theorem dX16_land_7 : decode cX16_land 7 = .ok (.putfield 464, 3) := by decide +kernel
theorem dX16_land_10 : decode cX16_land 10 = .ok (.aload_n 0, 1) := by decide +kernel
theorem dX16_land_11 : decode cX16_land 11 = .ok (.getfield 88, 3) := by decide +kernel
theorem dX16_land_14 : decode cX16_land 14 = .ok (.iload_n 1, 1) := by decide +kernel
theorem dX16_land_15 : decode cX16_land 15 = .ok (.aload_n 0, 1) := by decide +kernel
theorem dX16_land_16 : decode cX16_land 16 = .ok (.getfield 88, 3) := by decide +kernel
theorem dX16_land_19 : decode cX16_land 19 = .ok (.aload_n 0, 1) := by decide +kernel
theorem dX16_land_20 : decode cX16_land 20 = .ok (.getfield 464, 3) := by decide +kernel
theorem dX16_land_23 : decode cX16_land 23 = .ok (.iaload, 1) := by decide +kernel
theorem dX16_land_24 : decode cX16_land 24 = .ok (.iastore, 1) := by decide +kernel
theorem dX16_land_25 : decode cX16_land 25 = .ok (.aload_n 0, 1) := by decide +kernel
theorem dX16_land_26 : decode cX16_land 26 = .ok (.getfield 91, 3) := by decide +kernel
theorem dX16_land_29 : decode cX16_land 29 = .ok (.iload_n 1, 1) := by decide +kernel
theorem dX16_land_30 : decode cX16_land 30 = .ok (.aload_n 0, 1) := by decide +kernel
theorem dX16_land_31 : decode cX16_land 31 = .ok (.getfield 91, 3) := by decide +kernel
theorem dX16_land_34 : decode cX16_land 34 = .ok (.aload_n 0, 1) := by decide +kernel
theorem dX16_land_35 : decode cX16_land 35 = .ok (.getfield 464, 3) := by decide +kernel
theorem dX16_land_38 : decode cX16_land 38 = .ok (.iaload, 1) := by decide +kernel
theorem dX16_land_39 : decode cX16_land 39 = .ok (.iastore, 1) := by decide +kernel
theorem dX16_land_40 : decode cX16_land 40 = .ok (.aload_n 0, 1) := by decide +kernel
theorem dX16_land_41 : decode cX16_land 41 = .ok (.getfield 94, 3) := by decide +kernel
theorem dX16_land_44 : decode cX16_land 44 = .ok (.iload_n 1, 1) := by decide +kernel
theorem dX16_land_45 : decode cX16_land 45 = .ok (.aload_n 0, 1) := by decide +kernel
theorem dX16_land_46 : decode cX16_land 46 = .ok (.getfield 94, 3) := by decide +kernel
theorem dX16_land_49 : decode cX16_land 49 = .ok (.aload_n 0, 1) := by decide +kernel
theorem dX16_land_50 : decode cX16_land 50 = .ok (.getfield 464, 3) := by decide +kernel
theorem dX16_land_53 : decode cX16_land 53 = .ok (.iaload, 1) := by decide +kernel
theorem dX16_land_54 : decode cX16_land 54 = .ok (.iastore, 1) := by decide +kernel
theorem dX16_land_55 : decode cX16_land 55 = .ok (.aload_n 0, 1) := by decide +kernel
theorem dX16_land_56 : decode cX16_land 56 = .ok (.getfield 97, 3) := by decide +kernel
theorem dX16_land_59 : decode cX16_land 59 = .ok (.iload_n 1, 1) := by decide +kernel
theorem dX16_land_60 : decode cX16_land 60 = .ok (.aload_n 0, 1) := by decide +kernel
theorem dX16_land_61 : decode cX16_land 61 = .ok (.getfield 97, 3) := by decide +kernel
theorem dX16_land_64 : decode cX16_land 64 = .ok (.aload_n 0, 1) := by decide +kernel
theorem dX16_land_65 : decode cX16_land 65 = .ok (.getfield 464, 3) := by decide +kernel
theorem dX16_land_68 : decode cX16_land 68 = .ok (.iaload, 1) := by decide +kernel
theorem dX16_land_69 : decode cX16_land 69 = .ok (.iastore, 1) := by decide +kernel
theorem dX16_land_70 : decode cX16_land 70 = .ok (.aload_n 0, 1) := by decide +kernel
theorem dX16_land_71 : decode cX16_land 71 = .ok (.getfield 100, 3) := by decide +kernel
theorem dX16_land_74 : decode cX16_land 74 = .ok (.iload_n 1, 1) := by decide +kernel
theorem dX16_land_75 : decode cX16_land 75 = .ok (.aload_n 0, 1) := by decide +kernel
theorem dX16_land_76 : decode cX16_land 76 = .ok (.getfield 100, 3) := by decide +kernel
theorem dX16_land_79 : decode cX16_land 79 = .ok (.aload_n 0, 1) := by decide +kernel
theorem dX16_land_80 : decode cX16_land 80 = .ok (.getfield 464, 3) := by decide +kernel
theorem dX16_land_83 : decode cX16_land 83 = .ok (.iaload, 1) := by decide +kernel
theorem dX16_land_84 : decode cX16_land 84 = .ok (.iastore, 1) := by decide +kernel
theorem dX16_land_85 : decode cX16_land 85 = .ok (.iconst 0, 1) := by decide +kernel
theorem dX16_land_86 : decode cX16_land 86 = .ok (.istore_n 2, 1) := by decide +kernel
theorem dX16_land_87 : decode cX16_land 87 = .ok (.iload_n 2, 1) := by decide +kernel
theorem dX16_land_88 : decode cX16_land 88 = .ok (.aload_n 0, 1) := by decide +kernel
theorem dX16_land_89 : decode cX16_land 89 = .ok (.getfield 100, 3) := by decide +kernel
theorem dX16_land_92 : decode cX16_land 92 = .ok (.iload_n 1, 1) := by decide +kernel
theorem dX16_land_93 : decode cX16_land 93 = .ok (.iaload, 1) := by decide +kernel
theorem dX16_land_94 : decode cX16_land 94 = .ok (.if_icmp .ge 36, 3) := by decide +kernel
theorem dX16_land_97 : decode cX16_land 97 = .ok (.aload_n 0, 1) := by decide +kernel
theorem dX16_land_98 : decode cX16_land 98 = .ok (.getfield 104, 3) := by decide +kernel
theorem dX16_land_101 : decode cX16_land 101 = .ok (.sipush 460, 3) := by decide +kernel
theorem dX16_land_104 : decode cX16_land 104 = .ok (.iload_n 1, 1) := by decide +kernel
theorem dX16_land_105 : decode cX16_land 105 = .ok (.imul, 1) := by decide +kernel
theorem dX16_land_106 : decode cX16_land 106 = .ok (.iload_n 2, 1) := by decide +kernel
theorem dX16_land_107 : decode cX16_land 107 = .ok (.iadd, 1) := by decide +kernel
theorem dX16_land_108 : decode cX16_land 108 = .ok (.aload_n 0, 1) := by decide +kernel
theorem dX16_land_109 : decode cX16_land 109 = .ok (.getfield 104, 3) := by decide +kernel
theorem dX16_land_112 : decode cX16_land 112 = .ok (.sipush 460, 3) := by decide +kernel
theorem dX16_land_115 : decode cX16_land 115 = .ok (.aload_n 0, 1) := by decide +kernel
theorem dX16_land_116 : decode cX16_land 116 = .ok (.getfield 464, 3) := by decide +kernel
theorem dX16_land_119 : decode cX16_land 119 = .ok (.imul, 1) := by decide +kernel
theorem dX16_land_120 : decode cX16_land 120 = .ok (.iload_n 2, 1) := by decide +kernel
theorem dX16_land_121 : decode cX16_land 121 = .ok (.iadd, 1) := by decide +kernel
theorem dX16_land_122 : decode cX16_land 122 = .ok (.iaload, 1) := by decide +kernel
theorem dX16_land_123 : decode cX16_land 123 = .ok (.iastore, 1) := by decide +kernel
theorem dX16_land_124 : decode cX16_land 124 = .ok (.iinc 2 1, 3) := by decide +kernel
theorem dX16_land_127 : decode cX16_land 127 = .ok (.goto (-40), 3) := by decide +kernel
theorem dX16_land_130 : decode cX16_land 130 = .ok (.return_, 1) := by decide +kernel
def b_X16_land_87 (x1 x2 : Int) (V : VV) : Option ((Int × VV) ⊕ (VV)) :=
  (l2 186 400 x1 V).bind fun v1 =>
  if w32 x2 < w32 v1 then
    (l2 187 184000 ((460 * (w32 (V 156 32))) + x2) V).bind fun v2 =>
    (s2 187 184000 ((460 * x1) + x2) v2 V).bind fun V1 =>
    cnt (x2 + 1, V1)
  else
    xit (some V)
def l_X16_land_87 (x1 x2 : Int) (V : VV) : Option (VV) := lpN (fun s : Int × VV => b_X16_land_87 x1 s.1 s.2) FU (x2, V)
def f_X16_land (x1 : Int) (V : VV) : Option (VV) :=
  (p2 32 ((w32 (V 156 32)) - 1) V).bind fun V1 =>
  (l2 182 400 (w32 (V1 156 32)) V1).bind fun v1 =>
  (s2 182 400 x1 v1 V1).bind fun V2 =>
  (l2 183 400 (w32 (V2 156 32)) V2).bind fun v2 =>
  (s2 183 400 x1 v2 V2).bind fun V3 =>
  (l2 184 400 (w32 (V3 156 32)) V3).bind fun v3 =>
  (s2 184 400 x1 v3 V3).bind fun V4 =>
  (l2 185 400 (w32 (V4 156 32)) V4).bind fun v4 =>
  (s2 185 400 x1 v4 V4).bind fun V5 =>
  (l2 186 400 (w32 (V5 156 32)) V5).bind fun v5 =>
  (s2 186 400 x1 v5 V5).bind fun V6 =>
  l_X16_land_87 x1 0 V6
theorem s_X16_land_87 {g : GG} {d : Nat} (hD : 0 ≤ d) {x1 x2 : Int} {M : MM} (hM : LM M) {V : VV} {o : AV × MM} {P : ((Int × VV) ⊕ (VV)) → Prop} (c0 : ∀ s : Int × VV, P (.inl s) → Sem g d YX16_land 87 [(1, 156), (0, x1), (0, s.1)] [] (wr M s.2) o) (r0 : ∀ r : VV, P (.inr r) → o = ((9, 0), (wr M r))) {z : (Int × VV) ⊕ (VV)} (h : b_X16_land_87 x1 x2 V = some z) (hz : P z) : Sem g d YX16_land 87 [(1, 156), (0, x1), (0, x2)] [] (wr M V) o := by
  delta b_X16_land_87 at h
  refine S_iload_n (i := 2) dX16_land_87 rfl rfl ?_
  refine S_aload_n (i := 0) dX16_land_88 rfl rfl ?_
  refine P2_gfr hM (a := 186) FLX16_100 rfl ⟨rfl, rfl⟩ dX16_land_89 ?_
  refine S_iload_n (i := 1) dX16_land_92 rfl rfl ?_
  refine P2_lai hM (a := 186) (n := 400) rfl dX16_land_93 h (fun v1 h => ?_)
  refine P_icmp_ge (tgt := 130) dX16_land_94 rfl h (fun h => ?_) (fun h => ?_)
  · obtain ⟨z0, h, hz⟩ := xit_some' (P := fun r => P r) h hz
    obtain rfl := r0 _ (some_P (P := fun r => P (.inr r)) h hz)
    exact S_return dX16_land_130 rfl
  · refine S_aload_n (i := 0) dX16_land_97 rfl rfl ?_
    refine P2_gfr hM (a := 187) FLX16_104 rfl ⟨rfl, rfl⟩ dX16_land_98 ?_
    refine S_sipush (z := 460) dX16_land_101 rfl ?_
    refine S_iload_n (i := 1) dX16_land_104 rfl rfl ?_
    refine S_imul dX16_land_105 ?_
    refine S_iload_n (i := 2) dX16_land_106 rfl rfl ?_
    refine S_iadd dX16_land_107 ?_
    refine S_aload_n (i := 0) dX16_land_108 rfl rfl ?_
    refine P2_gfr hM (a := 187) FLX16_104 rfl ⟨rfl, rfl⟩ dX16_land_109 ?_
    refine S_sipush (z := 460) dX16_land_112 rfl ?_
    refine S_aload_n (i := 0) dX16_land_115 rfl rfl ?_
    refine P2_gfi hM FLX16_464 rfl dX16_land_116 ?_
    refine S_imul dX16_land_119 ?_
    refine S_iload_n (i := 2) dX16_land_120 rfl rfl ?_
    refine S_iadd dX16_land_121 ?_
    refine P2_lai hM (a := 187) (n := 184000) rfl dX16_land_122 h (fun v2 h => ?_)
    refine P2_sai hM (a := 187) (n := 184000) rfl dX16_land_123 h (fun V1 h => ?_)
    refine S_iinc dX16_land_124 rfl rfl rfl ?_
    change Sem g d YX16_land 127 [(1, 156), (0, x1), (0, x2 + 1)] [] (wr M V1) o
    refine S_goto (tgt := 87) dX16_land_127 rfl ?_
    exact c0 (x2 + 1, V1) (some_P (P := fun r => P r) h hz)
theorem sl_X16_land_87 {g : GG} {d : Nat} (hD : 0 ≤ d) {x1 x2 : Int} {M : MM} (hM : LM M) {V : VV} {o : AV × MM} {P : (VV) → Prop} (r0 : ∀ r : VV, P r → o = ((9, 0), (wr M r))) {z : VV} (h : l_X16_land_87 x1 x2 V = some z) (hz : P z) : Sem g d YX16_land 87 [(1, 156), (0, x1), (0, x2)] [] (wr M V) o := by
  refine lp_sound (S := fun s : Int × VV => Sem g d YX16_land 87 [(1, 156), (0, x1), (0, s.1)] [] (wr M s.2) o) (P := P) ?_ FU (x2, V) z h hz
  intro s x hx hP
  exact s_X16_land_87 hD hM (P := Sum.elim (fun s : Int × VV => Sem g d YX16_land 87 [(1, 156), (0, x1), (0, s.1)] [] (wr M s.2) o) P) (fun s h => h) (fun s h => r0 s h) hx hP
theorem s_X16_land_0 {g : GG} {d : Nat} (hD : 0 ≤ d) {x1 : Int} {M : MM} (hM : LM M) {V : VV} {o : AV × MM} {P : (VV) → Prop} (r0 : ∀ r : VV, P r → o = ((9, 0), (wr M r))) {z : VV} (h : f_X16_land x1 V = some z) (hz : P z) : Sem g d YX16_land 0 [(1, 156), (0, x1), (9, 0)] [] (wr M V) o := by
  delta f_X16_land at h
  refine S_aload_n (i := 0) dX16_land_0 rfl rfl ?_
  refine S_dup dX16_land_1 (Nat.le_of_ble_eq_true rfl) ?_
  refine P2_gfi hM FLX16_464 rfl dX16_land_2 ?_
  refine S_iconst dX16_land_5 rfl ?_
  refine S_isub dX16_land_6 ?_
  refine P2_pfi hM FLX16_464 FPX16_464 rfl dX16_land_7 h (fun V1 h => ?_)
  refine S_aload_n (i := 0) dX16_land_10 rfl rfl ?_
  refine P2_gfr hM (a := 182) FLX16_88 rfl ⟨rfl, rfl⟩ dX16_land_11 ?_
  refine S_iload_n (i := 1) dX16_land_14 rfl rfl ?_
  refine S_aload_n (i := 0) dX16_land_15 rfl rfl ?_
  refine P2_gfr hM (a := 182) FLX16_88 rfl ⟨rfl, rfl⟩ dX16_land_16 ?_
  refine S_aload_n (i := 0) dX16_land_19 rfl rfl ?_
  refine P2_gfi hM FLX16_464 rfl dX16_land_20 ?_
  refine P2_lai hM (a := 182) (n := 400) rfl dX16_land_23 h (fun v1 h => ?_)
  refine P2_sai hM (a := 182) (n := 400) rfl dX16_land_24 h (fun V2 h => ?_)
  refine S_aload_n (i := 0) dX16_land_25 rfl rfl ?_
  refine P2_gfr hM (a := 183) FLX16_91 rfl ⟨rfl, rfl⟩ dX16_land_26 ?_
  refine S_iload_n (i := 1) dX16_land_29 rfl rfl ?_
  refine S_aload_n (i := 0) dX16_land_30 rfl rfl ?_
  refine P2_gfr hM (a := 183) FLX16_91 rfl ⟨rfl, rfl⟩ dX16_land_31 ?_
  refine S_aload_n (i := 0) dX16_land_34 rfl rfl ?_
  refine P2_gfi hM FLX16_464 rfl dX16_land_35 ?_
  refine P2_lai hM (a := 183) (n := 400) rfl dX16_land_38 h (fun v2 h => ?_)
  refine P2_sai hM (a := 183) (n := 400) rfl dX16_land_39 h (fun V3 h => ?_)
  refine S_aload_n (i := 0) dX16_land_40 rfl rfl ?_
  refine P2_gfr hM (a := 184) FLX16_94 rfl ⟨rfl, rfl⟩ dX16_land_41 ?_
  refine S_iload_n (i := 1) dX16_land_44 rfl rfl ?_
  refine S_aload_n (i := 0) dX16_land_45 rfl rfl ?_
  refine P2_gfr hM (a := 184) FLX16_94 rfl ⟨rfl, rfl⟩ dX16_land_46 ?_
  refine S_aload_n (i := 0) dX16_land_49 rfl rfl ?_
  refine P2_gfi hM FLX16_464 rfl dX16_land_50 ?_
  refine P2_lai hM (a := 184) (n := 400) rfl dX16_land_53 h (fun v3 h => ?_)
  refine P2_sai hM (a := 184) (n := 400) rfl dX16_land_54 h (fun V4 h => ?_)
  refine S_aload_n (i := 0) dX16_land_55 rfl rfl ?_
  refine P2_gfr hM (a := 185) FLX16_97 rfl ⟨rfl, rfl⟩ dX16_land_56 ?_
  refine S_iload_n (i := 1) dX16_land_59 rfl rfl ?_
  refine S_aload_n (i := 0) dX16_land_60 rfl rfl ?_
  refine P2_gfr hM (a := 185) FLX16_97 rfl ⟨rfl, rfl⟩ dX16_land_61 ?_
  refine S_aload_n (i := 0) dX16_land_64 rfl rfl ?_
  refine P2_gfi hM FLX16_464 rfl dX16_land_65 ?_
  refine P2_lai hM (a := 185) (n := 400) rfl dX16_land_68 h (fun v4 h => ?_)
  refine P2_sai hM (a := 185) (n := 400) rfl dX16_land_69 h (fun V5 h => ?_)
  refine S_aload_n (i := 0) dX16_land_70 rfl rfl ?_
  refine P2_gfr hM (a := 186) FLX16_100 rfl ⟨rfl, rfl⟩ dX16_land_71 ?_
  refine S_iload_n (i := 1) dX16_land_74 rfl rfl ?_
  refine S_aload_n (i := 0) dX16_land_75 rfl rfl ?_
  refine P2_gfr hM (a := 186) FLX16_100 rfl ⟨rfl, rfl⟩ dX16_land_76 ?_
  refine S_aload_n (i := 0) dX16_land_79 rfl rfl ?_
  refine P2_gfi hM FLX16_464 rfl dX16_land_80 ?_
  refine P2_lai hM (a := 186) (n := 400) rfl dX16_land_83 h (fun v5 h => ?_)
  refine P2_sai hM (a := 186) (n := 400) rfl dX16_land_84 h (fun V6 h => ?_)
  refine S_iconst dX16_land_85 rfl ?_
  refine S_istore_n (i := 2) dX16_land_86 rfl (Nat.le_of_ble_eq_true rfl) rfl rfl ?_
  change Sem g d YX16_land 87 [(1, 156), (0, x1), (0, 0)] [] (wr M V6) o
  exact sl_X16_land_87 hD hM r0 h hz
theorem F_X16_land {g : GG} {d : Nat} (hD : 0 ≤ d) {x1 : Int} {M : MM} (hM : LM M) {V : VV} {r : VV} (h : f_X16_land x1 V = some r) : Sem g d YX16_land 0 (ini YX16_land [(1, 156), (0, x1)]) [] (wr M V) ((9, 0), (wr M r)) := by
  change Sem g d YX16_land 0 [(1, 156), (0, x1), (9, 0)] [] (wr M V) ((9, 0), (wr M r))
  exact s_X16_land_0 hD hM (P := fun x => x = r) (fun q e => by rw [e]) h rfl
/-! PeerSearchModel.nextDue()I -/
theorem dX16_nextDue_0 : decode cX16_nextDue 0 = .ok (.iconst (-1), 1) := by decide +kernel
theorem dX16_nextDue_1 : decode cX16_nextDue 1 = .ok (.istore_n 1, 1) := by decide +kernel
theorem dX16_nextDue_2 : decode cX16_nextDue 2 = .ok (.iconst 0, 1) := by decide +kernel
theorem dX16_nextDue_3 : decode cX16_nextDue 3 = .ok (.istore_n 2, 1) := by decide +kernel
theorem dX16_nextDue_4 : decode cX16_nextDue 4 = .ok (.iload_n 2, 1) := by decide +kernel
theorem dX16_nextDue_5 : decode cX16_nextDue 5 = .ok (.aload_n 0, 1) := by decide +kernel
theorem dX16_nextDue_6 : decode cX16_nextDue 6 = .ok (.getfield 464, 3) := by decide +kernel
theorem dX16_nextDue_9 : decode cX16_nextDue 9 = .ok (.if_icmp .ge 37, 3) := by decide +kernel
theorem dX16_nextDue_12 : decode cX16_nextDue 12 = .ok (.aload_n 0, 1) := by decide +kernel
theorem dX16_nextDue_13 : decode cX16_nextDue 13 = .ok (.getfield 94, 3) := by decide +kernel
theorem dX16_nextDue_16 : decode cX16_nextDue 16 = .ok (.iload_n 2, 1) := by decide +kernel
theorem dX16_nextDue_17 : decode cX16_nextDue 17 = .ok (.iaload, 1) := by decide +kernel
theorem dX16_nextDue_18 : decode cX16_nextDue 18 = .ok (.aload_n 0, 1) := by decide +kernel
theorem dX16_nextDue_19 : decode cX16_nextDue 19 = .ok (.getfield 483, 3) := by decide +kernel
theorem dX16_nextDue_22 : decode cX16_nextDue 22 = .ok (.if_icmp .gt 18, 3) := by decide +kernel
theorem dX16_nextDue_25 : decode cX16_nextDue 25 = .ok (.iload_n 1, 1) := by decide +kernel
theorem dX16_nextDue_26 : decode cX16_nextDue 26 = .ok (.ifCond .lt 12, 3) := by decide +kernel
theorem dX16_nextDue_29 : decode cX16_nextDue 29 = .ok (.aload_n 0, 1) := by decide +kernel
theorem dX16_nextDue_30 : decode cX16_nextDue 30 = .ok (.iload_n 2, 1) := by decide +kernel
theorem dX16_nextDue_31 : decode cX16_nextDue 31 = .ok (.iload_n 1, 1) := by decide +kernel
theorem dX16_nextDue_32 : decode cX16_nextDue 32 = .ok (.invokevirtual 795, 3) := by decide +kernel
theorem dX16_nextDue_35 : decode cX16_nextDue 35 = .ok (.ifCond .eq 5, 3) := by decide +kernel
theorem dX16_nextDue_38 : decode cX16_nextDue 38 = .ok (.iload_n 2, 1) := by decide +kernel
theorem dX16_nextDue_39 : decode cX16_nextDue 39 = .ok (.istore_n 1, 1) := by decide +kernel
theorem dX16_nextDue_40 : decode cX16_nextDue 40 = .ok (.iinc 2 1, 3) := by decide +kernel
theorem dX16_nextDue_43 : decode cX16_nextDue 43 = .ok (.goto (-39), 3) := by decide +kernel
theorem dX16_nextDue_46 : decode cX16_nextDue 46 = .ok (.iload_n 1, 1) := by decide +kernel
theorem dX16_nextDue_47 : decode cX16_nextDue 47 = .ok (.ireturn, 1) := by decide +kernel
def j_X16_nextDue_40 (x1 x2 : Int) (V : VV) : Option ((Int × Int) ⊕ (Int)) :=
  cnt (x1, x2 + 1)
def j_X16_nextDue_38 (x2 : Int) (V : VV) : Option ((Int × Int) ⊕ (Int)) :=
  j_X16_nextDue_40 x2 x2 V
def b_X16_nextDue_4 (x1 x2 : Int) (V : VV) : Option ((Int × Int) ⊕ (Int)) :=
  if w32 x2 < w32 (w32 (V 156 32)) then
    (l2 184 400 x2 V).bind fun v1 =>
    if w32 (w32 (V 156 11)) < w32 v1 then
      j_X16_nextDue_40 x1 x2 V
    else
      if w32 x1 < 0 then
        j_X16_nextDue_38 x2 V
      else
        (f_X16_ahead x2 x1 V).bind fun v2 =>
        if w32 v2 = 0 then
          j_X16_nextDue_40 x1 x2 V
        else
          j_X16_nextDue_38 x2 V
  else
    xit (some x1)
def l_X16_nextDue_4 (x1 x2 : Int) (V : VV) : Option (Int) := lpN (fun s : Int × Int => b_X16_nextDue_4 s.1 s.2 V) FU (x1, x2)
def f_X16_nextDue (V : VV) : Option (Int) :=
  l_X16_nextDue_4 (-1) 0 V
theorem s_X16_nextDue_40 {g : GG} {d : Nat} (hD : 1 ≤ d) {x1 x2 : Int} {M : MM} (hM : LM M) {V : VV} {o : AV × MM} {P : ((Int × Int) ⊕ (Int)) → Prop} (c0 : ∀ s : Int × Int, P (.inl s) → Sem g d YX16_nextDue 4 [(1, 156), (0, s.1), (0, s.2)] [] (wr M V) o) (r0 : ∀ r : Int, P (.inr r) → o = ((0, r), (wr M V))) {z : (Int × Int) ⊕ (Int)} (h : j_X16_nextDue_40 x1 x2 V = some z) (hz : P z) : Sem g d YX16_nextDue 40 [(1, 156), (0, x1), (0, x2)] [] (wr M V) o := by
  delta j_X16_nextDue_40 at h
  refine S_iinc dX16_nextDue_40 rfl rfl rfl ?_
  change Sem g d YX16_nextDue 43 [(1, 156), (0, x1), (0, x2 + 1)] [] (wr M V) o
  refine S_goto (tgt := 4) dX16_nextDue_43 rfl ?_
  exact c0 (x1, x2 + 1) (some_P (P := fun r => P r) h hz)
theorem s_X16_nextDue_38 {g : GG} {d : Nat} (hD : 1 ≤ d) {x2 : Int} {M : MM} (hM : LM M) {V : VV} {o : AV × MM} {P : ((Int × Int) ⊕ (Int)) → Prop} (c0 : ∀ s : Int × Int, P (.inl s) → Sem g d YX16_nextDue 4 [(1, 156), (0, s.1), (0, s.2)] [] (wr M V) o) (r0 : ∀ r : Int, P (.inr r) → o = ((0, r), (wr M V))) {z : (Int × Int) ⊕ (Int)} (h : j_X16_nextDue_38 x2 V = some z) (hz : P z) : Sem g d YX16_nextDue 38 [(1, 156), (9, 0), (0, x2)] [] (wr M V) o := by
  delta j_X16_nextDue_38 at h
  refine S_iload_n (i := 2) dX16_nextDue_38 rfl rfl ?_
  refine S_istore_n (i := 1) dX16_nextDue_39 rfl (Nat.le_of_ble_eq_true rfl) rfl rfl ?_
  change Sem g d YX16_nextDue 40 [(1, 156), (0, x2), (0, x2)] [] (wr M V) o
  exact s_X16_nextDue_40 hD hM c0 r0 h hz
theorem s_X16_nextDue_4 {g : GG} {d : Nat} (hD : 1 ≤ d) {x1 x2 : Int} {M : MM} (hM : LM M) {V : VV} {o : AV × MM} {P : ((Int × Int) ⊕ (Int)) → Prop} (c0 : ∀ s : Int × Int, P (.inl s) → Sem g d YX16_nextDue 4 [(1, 156), (0, s.1), (0, s.2)] [] (wr M V) o) (r0 : ∀ r : Int, P (.inr r) → o = ((0, r), (wr M V))) {z : (Int × Int) ⊕ (Int)} (h : b_X16_nextDue_4 x1 x2 V = some z) (hz : P z) : Sem g d YX16_nextDue 4 [(1, 156), (0, x1), (0, x2)] [] (wr M V) o := by
  delta b_X16_nextDue_4 at h
  refine S_iload_n (i := 2) dX16_nextDue_4 rfl rfl ?_
  refine S_aload_n (i := 0) dX16_nextDue_5 rfl rfl ?_
  refine P2_gfi hM FLX16_464 rfl dX16_nextDue_6 ?_
  refine P_icmp_ge (tgt := 46) dX16_nextDue_9 rfl h (fun h => ?_) (fun h => ?_)
  · obtain ⟨z0, h, hz⟩ := xit_some' (P := fun r => P r) h hz
    refine S_iload_n (i := 1) dX16_nextDue_46 rfl rfl ?_
    obtain rfl := r0 _ (some_P (P := fun r => P (.inr r)) h hz)
    exact P_ret dX16_nextDue_47 rfl (Or.inl rfl)
  · refine S_aload_n (i := 0) dX16_nextDue_12 rfl rfl ?_
    refine P2_gfr hM (a := 184) FLX16_94 rfl ⟨rfl, rfl⟩ dX16_nextDue_13 ?_
    refine S_iload_n (i := 2) dX16_nextDue_16 rfl rfl ?_
    refine P2_lai hM (a := 184) (n := 400) rfl dX16_nextDue_17 h (fun v1 h => ?_)
    refine S_aload_n (i := 0) dX16_nextDue_18 rfl rfl ?_
    refine P2_gfi hM FLX16_483 rfl dX16_nextDue_19 ?_
    refine P_icmp_gt (tgt := 40) dX16_nextDue_22 rfl h (fun h => ?_) (fun h => ?_)
    · exact s_X16_nextDue_40 hD hM c0 r0 h hz
    · refine S_iload_n (i := 1) dX16_nextDue_25 rfl rfl ?_
      refine P_if_lt (tgt := 38) dX16_nextDue_26 rfl h (fun h => ?_) (fun h => ?_)
      · refine S_weak (ls' := [(1, 156), (9, 0), (0, x2)]) ⟨Or.inr rfl, ⟨Or.inl rfl, ⟨Or.inr rfl, trivial⟩⟩⟩ ?_
        exact s_X16_nextDue_38 hD hM c0 r0 h hz
      · refine S_aload_n (i := 0) dX16_nextDue_29 rfl rfl ?_
        refine S_iload_n (i := 2) dX16_nextDue_30 rfl rfl ?_
        refine S_iload_n (i := 1) dX16_nextDue_31 rfl rfl ?_
        refine P2_invVp hM 0 [(0, x2), (0, x1)] [] CVX16_ahead MLX16_795 dX16_nextDue_32 rfl rfl rfl rfl rfl (by omega) h (fun r h => F_X16_ahead (by omega) hM h) (fun v2 h => ?_)
        refine P_if_eq (tgt := 40) dX16_nextDue_35 rfl h (fun h => ?_) (fun h => ?_)
        · exact s_X16_nextDue_40 hD hM c0 r0 h hz
        · refine S_weak (ls' := [(1, 156), (9, 0), (0, x2)]) ⟨Or.inr rfl, ⟨Or.inl rfl, ⟨Or.inr rfl, trivial⟩⟩⟩ ?_
          exact s_X16_nextDue_38 hD hM c0 r0 h hz
theorem sl_X16_nextDue_4 {g : GG} {d : Nat} (hD : 1 ≤ d) {x1 x2 : Int} {M : MM} (hM : LM M) {V : VV} {o : AV × MM} {P : (Int) → Prop} (r0 : ∀ r : Int, P r → o = ((0, r), (wr M V))) {z : Int} (h : l_X16_nextDue_4 x1 x2 V = some z) (hz : P z) : Sem g d YX16_nextDue 4 [(1, 156), (0, x1), (0, x2)] [] (wr M V) o := by
  refine lp_sound (S := fun s : Int × Int => Sem g d YX16_nextDue 4 [(1, 156), (0, s.1), (0, s.2)] [] (wr M V) o) (P := P) ?_ FU (x1, x2) z h hz
  intro s x hx hP
  exact s_X16_nextDue_4 hD hM (P := Sum.elim (fun s : Int × Int => Sem g d YX16_nextDue 4 [(1, 156), (0, s.1), (0, s.2)] [] (wr M V) o) P) (fun s h => h) (fun s h => r0 s h) hx hP
theorem s_X16_nextDue_0 {g : GG} {d : Nat} (hD : 1 ≤ d) {M : MM} (hM : LM M) {V : VV} {o : AV × MM} {P : (Int) → Prop} (r0 : ∀ r : Int, P r → o = ((0, r), (wr M V))) {z : Int} (h : f_X16_nextDue V = some z) (hz : P z) : Sem g d YX16_nextDue 0 [(1, 156), (9, 0), (9, 0)] [] (wr M V) o := by
  delta f_X16_nextDue at h
  refine S_iconst dX16_nextDue_0 rfl ?_
  refine S_istore_n (i := 1) dX16_nextDue_1 rfl (Nat.le_of_ble_eq_true rfl) rfl rfl ?_
  change Sem g d YX16_nextDue 2 [(1, 156), (0, (-1)), (9, 0)] [] (wr M V) o
  refine S_iconst dX16_nextDue_2 rfl ?_
  refine S_istore_n (i := 2) dX16_nextDue_3 rfl (Nat.le_of_ble_eq_true rfl) rfl rfl ?_
  change Sem g d YX16_nextDue 4 [(1, 156), (0, (-1)), (0, 0)] [] (wr M V) o
  exact sl_X16_nextDue_4 hD hM r0 h hz
theorem F_X16_nextDue {g : GG} {d : Nat} (hD : 1 ≤ d) {M : MM} (hM : LM M) {V : VV} {r : Int} (h : f_X16_nextDue V = some r) : Sem g d YX16_nextDue 0 (ini YX16_nextDue [(1, 156)]) [] (wr M V) ((0, r), (wr M V)) := by
  change Sem g d YX16_nextDue 0 [(1, 156), (9, 0), (9, 0)] [] (wr M V) ((0, r), (wr M V))
  exact s_X16_nextDue_0 hD hM (P := fun x => x = r) (fun q e => by rw [e]) h rfl
/-! PeerSearchModel.failed(II)V -/
theorem dX16_failed_0 : decode cX16_failed 0 = .ok (.aload_n 0, 1) := by decide +kernel
theorem dX16_failed_1 : decode cX16_failed 1 = .ok (.getfield 237, 3) := by decide +kernel
theorem dX16_failed_4 : decode cX16_failed 4 = .ok (.iload_n 1, 1) := by decide +kernel
theorem dX16_failed_5 : decode cX16_failed 5 = .ok (.iaload, 1) := by decide +kernel
theorem dX16_failed_6 : decode cX16_failed 6 = .ok (.iconst 1, 1) := by decide +kernel
theorem dX16_failed_7 : decode cX16_failed 7 = .ok (.if_icmp .ne 40, 3) := by decide +kernel
theorem dX16_failed_10 : decode cX16_failed 10 = .ok (.aload_n 0, 1) := by decide +kernel
theorem dX16_failed_11 : decode cX16_failed 11 = .ok (.getfield 264, 3) := by decide +kernel
theorem dX16_failed_14 : decode cX16_failed 14 = .ok (.iload_n 1, 1) := by decide +kernel
theorem dX16_failed_15 : decode cX16_failed 15 = .ok (.dup2, 1) := by decide +kernel
theorem dX16_failed_16 : decode cX16_failed 16 = .ok (.iaload, 1) := by decide +kernel
theorem dX16_failed_17 : decode cX16_failed 17 = .ok (.iconst 1, 1) := by decide +kernel
theorem dX16_failed_18 : decode cX16_failed 18 = .ok (.isub, 1) := by decide +kernel
theorem dX16_failed_19 : decode cX16_failed 19 = .ok (.iastore, 1) := by decide +kernel
theorem dX16_failed_20 : decode cX16_failed 20 = .ok (.aload_n 0, 1) := by decide +kernel
theorem dX16_failed_21 : decode cX16_failed 21 = .ok (.iload_n 1, 1) := by decide +kernel
theorem dX16_failed_22 : decode cX16_failed 22 = .ok (.aload_n 0, 1) := by decide +kernel
theorem dX16_failed_23 : decode cX16_failed 23 = .ok (.getfield 146, 3) := by decide +kernel
theorem dX16_failed_26 : decode cX16_failed 26 = .ok (.iconst 5, 1) := by decide +kernel
theorem dX16_failed_27 : decode cX16_failed 27 = .ok (.iload_n 2, 1) := by decide +kernel
theorem dX16_failed_28 : decode cX16_failed 28 = .ok (.imul, 1) := by decide +kernel
theorem dX16_failed_29 : decode cX16_failed 29 = .ok (.invokevirtual 618, 3) := by decide +kernel
theorem dX16_failed_32 : decode cX16_failed 32 = .ok (.istore_n 3, 1) := by decide +kernel
theorem dX16_failed_33 : decode cX16_failed 33 = .ok (.iload_n 3, 1) := by decide +kernel
theorem dX16_failed_34 : decode cX16_failed 34 = .ok (.ifCond .lt 10, 3) := by decide +kernel
theorem dX16_failed_37 : decode cX16_failed 37 = .ok (.aload_n 0, 1) := by decide +kernel
theorem dX16_failed_38 : decode cX16_failed 38 = .ok (.getfield 258, 3) := by decide +kernel
theorem dX16_failed_41 : decode cX16_failed 41 = .ok (.iload_n 3, 1) := by decide +kernel
theorem dX16_failed_42 : decode cX16_failed 42 = .ok (.iconst 3, 1) := by decide +kernel
theorem dX16_failed_43 : decode cX16_failed 43 = .ok (.iastore, 1) := by decide +kernel
theorem dX16_failed_44 : decode cX16_failed 44 = .ok (.goto 38, 3) := by decide +kernel
theorem dX16_failed_47 : decode cX16_failed 47 = .ok (.aload_n 0, 1) := by decide +kernel
theorem dX16_failed_48 : decode cX16_failed 48 = .ok (.getfield 237, 3) := by decide +kernel
theorem dX16_failed_51 : decode cX16_failed 51 = .ok (.iload_n 1, 1) := by decide +kernel
theorem dX16_failed_52 : decode cX16_failed 52 = .ok (.iaload, 1) := by decide +kernel
theorem dX16_failed_53 : decode cX16_failed 53 = .ok (.iconst 2, 1) := by decide +kernel
theorem dX16_failed_54 : decode cX16_failed 54 = .ok (.if_icmp .ne 22, 3) := by decide +kernel
theorem dX16_failed_57 : decode cX16_failed 57 = .ok (.aload_n 0, 1) := by decide +kernel
theorem dX16_failed_58 : decode cX16_failed 58 = .ok (.getfield 282, 3) := by decide +kernel
theorem dX16_failed_61 : decode cX16_failed 61 = .ok (.iload_n 1, 1) := by decide +kernel
theorem dX16_failed_62 : decode cX16_failed 62 = .ok (.dup2, 1) := by decide +kernel
theorem dX16_failed_63 : decode cX16_failed 63 = .ok (.iaload, 1) := by decide +kernel
theorem dX16_failed_64 : decode cX16_failed 64 = .ok (.iconst 1, 1) := by decide +kernel
theorem dX16_failed_65 : decode cX16_failed 65 = .ok (.isub, 1) := by decide +kernel
theorem dX16_failed_66 : decode cX16_failed 66 = .ok (.iastore, 1) := by decide +kernel
theorem dX16_failed_67 : decode cX16_failed 67 = .ok (.aload_n 0, 1) := by decide +kernel
theorem dX16_failed_68 : decode cX16_failed 68 = .ok (.iload_n 1, 1) := by decide +kernel
theorem dX16_failed_69 : decode cX16_failed 69 = .ok (.iconst 0, 1) := by decide +kernel
theorem dX16_failed_70 : decode cX16_failed 70 = .ok (.invokevirtual 682, 3) := by decide +kernel
theorem dX16_failed_73 : decode cX16_failed 73 = .ok (.goto 9, 3) := by decide +kernel
theorem dX16_failed_76 : decode cX16_failed 76 = .ok (.aload_n 0, 1) := by decide +kernel
theorem dX16_failed_77 : decode cX16_failed 77 = .ok (.iload_n 1, 1) := by decide +kernel
theorem dX16_failed_78 : decode cX16_failed 78 = .ok (.iconst 2, 1) := by decide +kernel
theorem dX16_failed_79 : decode cX16_failed 79 = .ok (.invokevirtual 659, 3) := by decide +kernel
theorem dX16_failed_82 : decode cX16_failed 82 = .ok (.aload_n 0, 1) := by decide +kernel
theorem dX16_failed_83 : decode cX16_failed 83 = .ok (.iload_n 1, 1) := by decide +kernel
theorem dX16_failed_84 : decode cX16_failed 84 = .ok (.invokevirtual 726, 3) := by decide +kernel
theorem dX16_failed_87 : decode cX16_failed 87 = .ok (.return_, 1) := by decide +kernel
def j_X16_failed_82 (x1 : Int) (V : VV) : Option (VV) :=
  (f_X16_proceed x1 V).bind fun V1 =>
  some V1
def j_X16_failed_44 (x1 : Int) (V : VV) : Option (VV) :=
  j_X16_failed_82 x1 V
def f_X16_failed (x1 x2 : Int) (V : VV) : Option (VV) :=
  (l2 230 44 x1 V).bind fun v1 =>
  if w32 v1 = w32 1 then
    (l2 239 44 x1 V).bind fun v4 =>
    (s2 239 44 x1 (v4 - 1) V).bind fun V4 =>
    (f_X16_entryWith x1 200 (5 * x2) V4).bind fun v5 =>
    if w32 v5 < 0 then
      j_X16_failed_44 x1 V4
    else
      (s2 237 2860 v5 3 V4).bind fun V5 =>
      j_X16_failed_44 x1 V5
  else
    (l2 230 44 x1 V).bind fun v2 =>
    if w32 v2 = w32 2 then
      (l2 245 44 x1 V).bind fun v3 =>
      (s2 245 44 x1 (v3 - 1) V).bind fun V2 =>
      (f_X16_stored x1 0 V2).bind fun V3 =>
      j_X16_failed_82 x1 V3
    else
      (f_X16_close x1 2 V).bind fun V1 =>
      j_X16_failed_82 x1 V1
theorem s_X16_failed_82 {g : GG} {d : Nat} (hD : 9 ≤ d) {x1 : Int} {M : MM} (hM : LM M) {V : VV} {o : AV × MM} {P : (VV) → Prop} (r0 : ∀ r : VV, P r → o = ((9, 0), (wr M r))) {z : VV} (h : j_X16_failed_82 x1 V = some z) (hz : P z) : Sem g d YX16_failed 82 [(1, 156), (0, x1), (9, 0), (9, 0)] [] (wr M V) o := by
  delta j_X16_failed_82 at h
  refine S_aload_n (i := 0) dX16_failed_82 rfl rfl ?_
  refine S_iload_n (i := 1) dX16_failed_83 rfl rfl ?_
  refine P2_invVm hM [(0, x1)] [] CVX16_proceed MLX16_726 dX16_failed_84 rfl rfl rfl rfl (by omega) h (fun r h => F_X16_proceed (by omega) hM h) (fun V1 h => ?_)
  obtain rfl := r0 _ (some_P (P := fun r => P r) h hz)
  exact S_return dX16_failed_87 rfl
theorem s_X16_failed_44 {g : GG} {d : Nat} (hD : 9 ≤ d) {x1 : Int} {M : MM} (hM : LM M) {V : VV} {o : AV × MM} {P : (VV) → Prop} (r0 : ∀ r : VV, P r → o = ((9, 0), (wr M r))) {z : VV} (h : j_X16_failed_44 x1 V = some z) (hz : P z) : Sem g d YX16_failed 44 [(1, 156), (0, x1), (9, 0), (9, 0)] [] (wr M V) o := by
  delta j_X16_failed_44 at h
  refine S_goto (tgt := 82) dX16_failed_44 rfl ?_
  exact s_X16_failed_82 hD hM r0 h hz
theorem s_X16_failed_0 {g : GG} {d : Nat} (hD : 9 ≤ d) {x1 x2 : Int} {M : MM} (hM : LM M) {V : VV} {o : AV × MM} {P : (VV) → Prop} (r0 : ∀ r : VV, P r → o = ((9, 0), (wr M r))) {z : VV} (h : f_X16_failed x1 x2 V = some z) (hz : P z) : Sem g d YX16_failed 0 [(1, 156), (0, x1), (0, x2), (9, 0)] [] (wr M V) o := by
  delta f_X16_failed at h
  refine S_aload_n (i := 0) dX16_failed_0 rfl rfl ?_
  refine P2_gfr hM (a := 230) FLX16_237 rfl ⟨rfl, rfl⟩ dX16_failed_1 ?_
  refine S_iload_n (i := 1) dX16_failed_4 rfl rfl ?_
  refine P2_lai hM (a := 230) (n := 44) rfl dX16_failed_5 h (fun v1 h => ?_)
  refine S_iconst dX16_failed_6 rfl ?_
  refine P_icmp_ne (tgt := 47) dX16_failed_7 rfl h (fun h => ?_) (fun h => ?_)
  · refine S_aload_n (i := 0) dX16_failed_47 rfl rfl ?_
    refine P2_gfr hM (a := 230) FLX16_237 rfl ⟨rfl, rfl⟩ dX16_failed_48 ?_
    refine S_iload_n (i := 1) dX16_failed_51 rfl rfl ?_
    refine P2_lai hM (a := 230) (n := 44) rfl dX16_failed_52 h (fun v2 h => ?_)
    refine S_iconst dX16_failed_53 rfl ?_
    refine P_icmp_ne (tgt := 76) dX16_failed_54 rfl h (fun h => ?_) (fun h => ?_)
    · refine S_aload_n (i := 0) dX16_failed_76 rfl rfl ?_
      refine S_iload_n (i := 1) dX16_failed_77 rfl rfl ?_
      refine S_iconst dX16_failed_78 rfl ?_
      refine P2_invVm hM [(0, x1), (0, 2)] [] CVX16_close MLX16_659 dX16_failed_79 rfl rfl rfl rfl (by omega) h (fun r h => F_X16_close (by omega) hM h) (fun V1 h => ?_)
      refine S_weak (ls' := [(1, 156), (0, x1), (9, 0), (9, 0)]) ⟨Or.inr rfl, ⟨Or.inr rfl, ⟨Or.inl rfl, ⟨Or.inl rfl, trivial⟩⟩⟩⟩ ?_
      exact s_X16_failed_82 hD hM r0 h hz
    · refine S_aload_n (i := 0) dX16_failed_57 rfl rfl ?_
      refine P2_gfr hM (a := 245) FLX16_282 rfl ⟨rfl, rfl⟩ dX16_failed_58 ?_
      refine S_iload_n (i := 1) dX16_failed_61 rfl rfl ?_
      refine S_dup2 dX16_failed_62 (Nat.le_of_ble_eq_true rfl) (Nat.le_of_ble_eq_true rfl) ?_
      refine P2_lai hM (a := 245) (n := 44) rfl dX16_failed_63 h (fun v3 h => ?_)
      refine S_iconst dX16_failed_64 rfl ?_
      refine S_isub dX16_failed_65 ?_
      refine P2_sai hM (a := 245) (n := 44) rfl dX16_failed_66 h (fun V2 h => ?_)
      refine S_aload_n (i := 0) dX16_failed_67 rfl rfl ?_
      refine S_iload_n (i := 1) dX16_failed_68 rfl rfl ?_
      refine S_iconst dX16_failed_69 rfl ?_
      refine P2_invVm hM [(0, x1), (0, 0)] [] CVX16_stored MLX16_682 dX16_failed_70 rfl rfl rfl rfl (by omega) h (fun r h => F_X16_stored (by omega) hM h) (fun V3 h => ?_)
      refine S_goto (tgt := 82) dX16_failed_73 rfl ?_
      refine S_weak (ls' := [(1, 156), (0, x1), (9, 0), (9, 0)]) ⟨Or.inr rfl, ⟨Or.inr rfl, ⟨Or.inl rfl, ⟨Or.inl rfl, trivial⟩⟩⟩⟩ ?_
      exact s_X16_failed_82 hD hM r0 h hz
  · refine S_aload_n (i := 0) dX16_failed_10 rfl rfl ?_
    refine P2_gfr hM (a := 239) FLX16_264 rfl ⟨rfl, rfl⟩ dX16_failed_11 ?_
    refine S_iload_n (i := 1) dX16_failed_14 rfl rfl ?_
    refine S_dup2 dX16_failed_15 (Nat.le_of_ble_eq_true rfl) (Nat.le_of_ble_eq_true rfl) ?_
    refine P2_lai hM (a := 239) (n := 44) rfl dX16_failed_16 h (fun v4 h => ?_)
    refine S_iconst dX16_failed_17 rfl ?_
    refine S_isub dX16_failed_18 ?_
    refine P2_sai hM (a := 239) (n := 44) rfl dX16_failed_19 h (fun V4 h => ?_)
    refine S_aload_n (i := 0) dX16_failed_20 rfl rfl ?_
    refine S_iload_n (i := 1) dX16_failed_21 rfl rfl ?_
    refine S_aload_n (i := 0) dX16_failed_22 rfl rfl ?_
    refine P2_gfr hM (a := 200) FLX16_146 rfl ⟨rfl, rfl⟩ dX16_failed_23 ?_
    refine S_iconst dX16_failed_26 rfl ?_
    refine S_iload_n (i := 2) dX16_failed_27 rfl rfl ?_
    refine S_imul dX16_failed_28 ?_
    refine P2_invVp hM 0 [(0, x1), (1, 200), (0, 5 * x2)] [] CVX16_entryWith MLX16_618 dX16_failed_29 rfl rfl rfl rfl rfl (by omega) h (fun r h => F_X16_entryWith (by omega) hM h) (fun v5 h => ?_)
    refine S_istore_n (i := 3) dX16_failed_32 rfl (Nat.le_of_ble_eq_true rfl) rfl rfl ?_
    change Sem g d YX16_failed 33 [(1, 156), (0, x1), (0, x2), (0, v5)] [] (wr M V4) o
    refine S_iload_n (i := 3) dX16_failed_33 rfl rfl ?_
    refine P_if_lt (tgt := 44) dX16_failed_34 rfl h (fun h => ?_) (fun h => ?_)
    · refine S_weak (ls' := [(1, 156), (0, x1), (9, 0), (9, 0)]) ⟨Or.inr rfl, ⟨Or.inr rfl, ⟨Or.inl rfl, ⟨Or.inl rfl, trivial⟩⟩⟩⟩ ?_
      exact s_X16_failed_44 hD hM r0 h hz
    · refine S_aload_n (i := 0) dX16_failed_37 rfl rfl ?_
      refine P2_gfr hM (a := 237) FLX16_258 rfl ⟨rfl, rfl⟩ dX16_failed_38 ?_
      refine S_iload_n (i := 3) dX16_failed_41 rfl rfl ?_
      refine S_iconst dX16_failed_42 rfl ?_
      refine P2_sai hM (a := 237) (n := 2860) rfl dX16_failed_43 h (fun V5 h => ?_)
      refine S_weak (ls' := [(1, 156), (0, x1), (9, 0), (9, 0)]) ⟨Or.inr rfl, ⟨Or.inr rfl, ⟨Or.inl rfl, ⟨Or.inl rfl, trivial⟩⟩⟩⟩ ?_
      exact s_X16_failed_44 hD hM r0 h hz
theorem F_X16_failed {g : GG} {d : Nat} (hD : 9 ≤ d) {x1 x2 : Int} {M : MM} (hM : LM M) {V : VV} {r : VV} (h : f_X16_failed x1 x2 V = some r) : Sem g d YX16_failed 0 (ini YX16_failed [(1, 156), (0, x1), (0, x2)]) [] (wr M V) ((9, 0), (wr M r)) := by
  change Sem g d YX16_failed 0 [(1, 156), (0, x1), (0, x2), (9, 0)] [] (wr M V) ((9, 0), (wr M r))
  exact s_X16_failed_0 hD hM (P := fun x => x = r) (fun q e => by rw [e]) h rfl
/-! PeerSearchModel.runOut(I)V -/
theorem dX16_runOut_0 : decode cX16_runOut 0 = .ok (.iconst 0, 1) := by decide +kernel
theorem dX16_runOut_1 : decode cX16_runOut 1 = .ok (.istore_n 2, 1) := by decide +kernel
theorem dX16_runOut_2 : decode cX16_runOut 2 = .ok (.bipush 40, 2) := by decide +kernel
theorem dX16_runOut_4 : decode cX16_runOut 4 = .ok (.iload_n 1, 1) := by decide +kernel
theorem dX16_runOut_5 : decode cX16_runOut 5 = .ok (.imul, 1) := by decide +kernel
theorem dX16_runOut_6 : decode cX16_runOut 6 = .ok (.istore_n 3, 1) := by decide +kernel
theorem dX16_runOut_7 : decode cX16_runOut 7 = .ok (.iload_n 3, 1) := by decide +kernel
theorem dX16_runOut_8 : decode cX16_runOut 8 = .ok (.bipush 40, 2) := by decide +kernel
theorem dX16_runOut_10 : decode cX16_runOut 10 = .ok (.iload_n 1, 1) := by decide +kernel
theorem dX16_runOut_11 : decode cX16_runOut 11 = .ok (.imul, 1) := by decide +kernel
theorem dX16_runOut_12 : decode cX16_runOut 12 = .ok (.bipush 40, 2) := by decide +kernel
theorem dX16_runOut_14 : decode cX16_runOut 14 = .ok (.iadd, 1) := by decide +kernel
theorem dX16_runOut_15 : decode cX16_runOut 15 = .ok (.if_icmp .ge 107, 3) := by decide +kernel
theorem dX16_runOut_18 : decode cX16_runOut 18 = .ok (.aload_n 0, 1) := by decide +kernel
theorem dX16_runOut_19 : decode cX16_runOut 19 = .ok (.getfield 137, 3) := by decide +kernel
theorem dX16_runOut_22 : decode cX16_runOut 22 = .ok (.iload_n 3, 1) := by decide +kernel
theorem dX16_runOut_23 : decode cX16_runOut 23 = .ok (.baload, 1) := by decide +kernel
theorem dX16_runOut_24 : decode cX16_runOut 24 = .ok (.ifCond .eq 92, 3) := by decide +kernel
theorem dX16_runOut_27 : decode cX16_runOut 27 = .ok (.aload_n 0, 1) := by decide +kernel
theorem dX16_runOut_28 : decode cX16_runOut 28 = .ok (.getfield 152, 3) := by decide +kernel
theorem dX16_runOut_31 : decode cX16_runOut 31 = .ok (.iload_n 3, 1) := by decide +kernel
theorem dX16_runOut_32 : decode cX16_runOut 32 = .ok (.iaload, 1) := by decide +kernel
theorem dX16_runOut_33 : decode cX16_runOut 33 = .ok (.aload_n 0, 1) := by decide +kernel
theorem dX16_runOut_34 : decode cX16_runOut 34 = .ok (.getfield 483, 3) := by decide +kernel
theorem dX16_runOut_37 : decode cX16_runOut 37 = .ok (.if_icmp .le 6, 3) := by decide +kernel
theorem dX16_runOut_40 : decode cX16_runOut 40 = .ok (.goto 76, 3) := by decide +kernel
theorem dX16_runOut_43 : decode cX16_runOut 43 = .ok (.iload_n 2, 1) := by decide +kernel
theorem dX16_runOut_44 : decode cX16_runOut 44 = .ok (.istore 4, 2) := by decide +kernel
theorem dX16_runOut_46 : decode cX16_runOut 46 = .ok (.iload 4, 2) := by decide +kernel
theorem dX16_runOut_48 : decode cX16_runOut 48 = .ok (.ifCond .le 57, 3) := by decide +kernel
theorem dX16_runOut_51 : decode cX16_runOut 51 = .ok (.aload_n 0, 1) := by decide +kernel
theorem dX16_runOut_52 : decode cX16_runOut 52 = .ok (.getfield 140, 3) := by decide +kernel
theorem dX16_runOut_55 : decode cX16_runOut 55 = .ok (.iload_n 3, 1) := by decide +kernel
theorem dX16_runOut_56 : decode cX16_runOut 56 = .ok (.iaload, 1) := by decide +kernel
theorem dX16_runOut_57 : decode cX16_runOut 57 = .ok (.aload_n 0, 1) := by decide +kernel
theorem dX16_runOut_58 : decode cX16_runOut 58 = .ok (.getfield 140, 3) := by decide +kernel
theorem dX16_runOut_61 : decode cX16_runOut 61 = .ok (.aload_n 0, 1) := by decide +kernel
theorem dX16_runOut_62 : decode cX16_runOut 62 = .ok (.getfield 370, 3) := by decide +kernel
theorem dX16_runOut_65 : decode cX16_runOut 65 = .ok (.iload 4, 2) := by decide +kernel
theorem dX16_runOut_67 : decode cX16_runOut 67 = .ok (.ifCond .le 10, 3) := by decide +kernel
theorem dX16_runOut_70 : decode cX16_runOut 70 = .ok (.iload 4, 2) := by decide +kernel
theorem dX16_runOut_72 : decode cX16_runOut 72 = .ok (.iconst 1, 1) := by decide +kernel
theorem dX16_runOut_73 : decode cX16_runOut 73 = .ok (.isub, 1) := by decide +kernel
theorem dX16_runOut_74 : decode cX16_runOut 74 = .ok (.goto 4, 3) := by decide +kernel
theorem dX16_runOut_77 : decode cX16_runOut 77 = .ok (.iconst 0, 1) := by decide +kernel
theorem dX16_runOut_78 : decode cX16_runOut 78 = .ok (.iaload, 1) := by decide +kernel
theorem dX16_runOut_79 : decode cX16_runOut 79 = .ok (.iaload, 1) := by decide +kernel
theorem dX16_runOut_80 : decode cX16_runOut 80 = .ok (.if_icmp .ge 25, 3) := by decide +kernel
theorem dX16_runOut_83 : decode cX16_runOut 83 = .ok (.aload_n 0, 1) := by decide +kernel
theorem dX16_runOut_84 : decode cX16_runOut 84 = .ok (.getfield 370, 3) := by decide +kernel
theorem dX16_runOut_87 : decode cX16_runOut 87 = .ok (.iload 4, 2) := by decide +kernel
theorem dX16_runOut_89 : decode cX16_runOut 89 = .ok (.aload_n 0, 1) := by decide +kernel
theorem dX16_runOut_90 : decode cX16_runOut 90 = .ok (.getfield 370, 3) := by decide +kernel
theorem dX16_runOut_93 : decode cX16_runOut 93 = .ok (.iload 4, 2) := by decide +kernel
theorem dX16_runOut_95 : decode cX16_runOut 95 = .ok (.iconst 1, 1) := by decide +kernel
theorem dX16_runOut_96 : decode cX16_runOut 96 = .ok (.isub, 1) := by decide +kernel
theorem dX16_runOut_97 : decode cX16_runOut 97 = .ok (.iaload, 1) := by decide +kernel
theorem dX16_runOut_98 : decode cX16_runOut 98 = .ok (.iastore, 1) := by decide +kernel
theorem dX16_runOut_99 : decode cX16_runOut 99 = .ok (.iinc 4 (-1), 3) := by decide +kernel
theorem dX16_runOut_102 : decode cX16_runOut 102 = .ok (.goto (-56), 3) := by decide +kernel
theorem dX16_runOut_105 : decode cX16_runOut 105 = .ok (.aload_n 0, 1) := by decide +kernel
theorem dX16_runOut_106 : decode cX16_runOut 106 = .ok (.getfield 370, 3) := by decide +kernel
theorem dX16_runOut_109 : decode cX16_runOut 109 = .ok (.iload 4, 2) := by decide +kernel
theorem dX16_runOut_111 : decode cX16_runOut 111 = .ok (.iload_n 3, 1) := by decide +kernel
theorem dX16_runOut_112 : decode cX16_runOut 112 = .ok (.iastore, 1) := by decide +kernel
theorem dX16_runOut_113 : decode cX16_runOut 113 = .ok (.iinc 2 1, 3) := by decide +kernel
theorem dX16_runOut_116 : decode cX16_runOut 116 = .ok (.iinc 3 1, 3) := by decide +kernel
theorem dX16_runOut_119 : decode cX16_runOut 119 = .ok (.goto (-112), 3) := by decide +kernel
theorem dX16_runOut_122 : decode cX16_runOut 122 = .ok (.iconst 0, 1) := by decide +kernel
theorem dX16_runOut_123 : decode cX16_runOut 123 = .ok (.istore_n 3, 1) := by decide +kernel
theorem dX16_runOut_124 : decode cX16_runOut 124 = .ok (.iload_n 3, 1) := by decide +kernel
theorem dX16_runOut_125 : decode cX16_runOut 125 = .ok (.iload_n 2, 1) := by decide +kernel
theorem dX16_runOut_126 : decode cX16_runOut 126 = .ok (.if_icmp .ge 165, 3) := by decide +kernel
theorem dX16_runOut_129 : decode cX16_runOut 129 = .ok (.aload_n 0, 1) := by decide +kernel
theorem dX16_runOut_130 : decode cX16_runOut 130 = .ok (.getfield 370, 3) := by decide +kernel
theorem dX16_runOut_133 : decode cX16_runOut 133 = .ok (.iload_n 3, 1) := by decide +kernel
theorem dX16_runOut_134 : decode cX16_runOut 134 = .ok (.iaload, 1) := by decide +kernel
theorem dX16_runOut_135 : decode cX16_runOut 135 = .ok (.istore 4, 2) := by decide +kernel
theorem dX16_runOut_137 : decode cX16_runOut 137 = .ok (.aload_n 0, 1) := by decide +kernel
theorem dX16_runOut_138 : decode cX16_runOut 138 = .ok (.getfield 137, 3) := by decide +kernel
theorem dX16_runOut_141 : decode cX16_runOut 141 = .ok (.iload 4, 2) := by decide +kernel
theorem dX16_runOut_143 : decode cX16_runOut 143 = .ok (.baload, 1) := by decide +kernel
theorem dX16_runOut_144 : decode cX16_runOut 144 = .ok (.ifCond .eq 141, 3) := by decide +kernel
theorem dX16_runOut_147 : decode cX16_runOut 147 = .ok (.aload_n 0, 1) := by decide +kernel
theorem dX16_runOut_148 : decode cX16_runOut 148 = .ok (.getfield 152, 3) := by decide +kernel
theorem dX16_runOut_151 : decode cX16_runOut 151 = .ok (.iload 4, 2) := by decide +kernel
theorem dX16_runOut_153 : decode cX16_runOut 153 = .ok (.iaload, 1) := by decide +kernel
theorem dX16_runOut_154 : decode cX16_runOut 154 = .ok (.aload_n 0, 1) := by decide +kernel
theorem dX16_runOut_155 : decode cX16_runOut 155 = .ok (.getfield 483, 3) := by decide +kernel
theorem dX16_runOut_158 : decode cX16_runOut 158 = .ok (.if_icmp .le 6, 3) := by decide +kernel
theorem dX16_runOut_161 : decode cX16_runOut 161 = .ok (.goto 124, 3) := by decide +kernel
theorem dX16_runOut_164 : decode cX16_runOut 164 = .ok (.aload_n 0, 1) := by decide +kernel
theorem dX16_runOut_165 : decode cX16_runOut 165 = .ok (.getfield 155, 3) := by decide +kernel
theorem dX16_runOut_168 : decode cX16_runOut 168 = .ok (.iload 4, 2) := by decide +kernel
theorem dX16_runOut_170 : decode cX16_runOut 170 = .ok (.iaload, 1) := by decide +kernel
theorem dX16_runOut_171 : decode cX16_runOut 171 = .ok (.aload_n 0, 1) := by decide +kernel
theorem dX16_runOut_172 : decode cX16_runOut 172 = .ok (.getfield 25, 3) := by decide +kernel
theorem dX16_runOut_175 : decode cX16_runOut 175 = .ok (.iconst 5, 1) := by decide +kernel
theorem dX16_runOut_176 : decode cX16_runOut 176 = .ok (.iaload, 1) := by decide +kernel
theorem dX16_runOut_177 : decode cX16_runOut 177 = .ok (.if_icmp .gt 13, 3) := by decide +kernel
theorem dX16_runOut_180 : decode cX16_runOut 180 = .ok (.aload_n 0, 1) := by decide +kernel
theorem dX16_runOut_181 : decode cX16_runOut 181 = .ok (.iload_n 1, 1) := by decide +kernel
theorem dX16_runOut_182 : decode cX16_runOut 182 = .ok (.iload 4, 2) := by decide +kernel
theorem dX16_runOut_184 : decode cX16_runOut 184 = .ok (.invokevirtual 553, 3) := by decide +kernel
theorem dX16_runOut_187 : decode cX16_runOut 187 = .ok (.goto 98, 3) := by decide +kernel
theorem dX16_runOut_190 : decode cX16_runOut 190 = .ok (.aload_n 0, 1) := by decide +kernel
theorem dX16_runOut_191 : decode cX16_runOut 191 = .ok (.getfield 137, 3) := by decide +kernel
theorem dX16_runOut_194 : decode cX16_runOut 194 = .ok (.iload 4, 2) := by decide +kernel
theorem dX16_runOut_196 : decode cX16_runOut 196 = .ok (.iconst 0, 1) := by decide +kernel
theorem dX16_runOut_197 : decode cX16_runOut 197 = .ok (.bastore, 1) := by decide +kernel
theorem dX16_runOut_198 : decode cX16_runOut 198 = .ok (.aload_n 0, 1) := by decide +kernel
theorem dX16_runOut_199 : decode cX16_runOut 199 = .ok (.iload_n 1, 1) := by decide +kernel
theorem dX16_runOut_200 : decode cX16_runOut 200 = .ok (.aload_n 0, 1) := by decide +kernel
theorem dX16_runOut_201 : decode cX16_runOut 201 = .ok (.getfield 146, 3) := by decide +kernel
theorem dX16_runOut_204 : decode cX16_runOut 204 = .ok (.iconst 5, 1) := by decide +kernel
theorem dX16_runOut_205 : decode cX16_runOut 205 = .ok (.iload 4, 2) := by decide +kernel
theorem dX16_runOut_207 : decode cX16_runOut 207 = .ok (.imul, 1) := by decide +kernel
theorem dX16_runOut_208 : decode cX16_runOut 208 = .ok (.aload_n 0, 1) := by decide +kernel
theorem dX16_runOut_209 : decode cX16_runOut 209 = .ok (.getfield 143, 3) := by decide +kernel
theorem dX16_runOut_212 : decode cX16_runOut 212 = .ok (.iload 4, 2) := by decide +kernel
theorem dX16_runOut_214 : decode cX16_runOut 214 = .ok (.iaload, 1) := by decide +kernel
theorem dX16_runOut_215 : decode cX16_runOut 215 = .ok (.invokevirtual 768, 3) := by decide +kernel
theorem dX16_runOut_218 : decode cX16_runOut 218 = .ok (.aload_n 0, 1) := by decide +kernel
theorem dX16_runOut_219 : decode cX16_runOut 219 = .ok (.getfield 158, 3) := by decide +kernel
theorem dX16_runOut_222 : decode cX16_runOut 222 = .ok (.iload 4, 2) := by decide +kernel
theorem dX16_runOut_224 : decode cX16_runOut 224 = .ok (.iaload, 1) := by decide +kernel
theorem dX16_runOut_225 : decode cX16_runOut 225 = .ok (.istore 5, 2) := by decide +kernel
theorem dX16_runOut_227 : decode cX16_runOut 227 = .ok (.iload 5, 2) := by decide +kernel
theorem dX16_runOut_229 : decode cX16_runOut 229 = .ok (.ifCond .lt 56, 3) := by decide +kernel
theorem dX16_runOut_232 : decode cX16_runOut 232 = .ok (.aload_n 0, 1) := by decide +kernel
theorem dX16_runOut_233 : decode cX16_runOut 233 = .ok (.getfield 225, 3) := by decide +kernel
theorem dX16_runOut_236 : decode cX16_runOut 236 = .ok (.iload 5, 2) := by decide +kernel
theorem dX16_runOut_238 : decode cX16_runOut 238 = .ok (.ifCond .ge 7, 3) := by decide +kernel
theorem dX16_runOut_241 : decode cX16_runOut 241 = .ok (.iconst 0, 1) := by decide +kernel
theorem dX16_runOut_242 : decode cX16_runOut 242 = .ok (.goto 5, 3) := by decide +kernel
theorem dX16_runOut_245 : decode cX16_runOut 245 = .ok (.iload 5, 2) := by decide +kernel
theorem dX16_runOut_247 : decode cX16_runOut 247 = .ok (.baload, 1) := by decide +kernel
theorem dX16_runOut_248 : decode cX16_runOut 248 = .ok (.ifCond .eq 37, 3) := by decide +kernel
theorem dX16_runOut_251 : decode cX16_runOut 251 = .ok (.aload_n 0, 1) := by decide +kernel
theorem dX16_runOut_252 : decode cX16_runOut 252 = .ok (.getfield 161, 3) := by decide +kernel
theorem dX16_runOut_255 : decode cX16_runOut 255 = .ok (.iload 4, 2) := by decide +kernel
theorem dX16_runOut_257 : decode cX16_runOut 257 = .ok (.iaload, 1) := by decide +kernel
theorem dX16_runOut_258 : decode cX16_runOut 258 = .ok (.aload_n 0, 1) := by decide +kernel
theorem dX16_runOut_259 : decode cX16_runOut 259 = .ok (.getfield 240, 3) := by decide +kernel
theorem dX16_runOut_262 : decode cX16_runOut 262 = .ok (.iload 5, 2) := by decide +kernel
theorem dX16_runOut_264 : decode cX16_runOut 264 = .ok (.ifCond .ge 7, 3) := by decide +kernel
theorem dX16_runOut_267 : decode cX16_runOut 267 = .ok (.iconst 0, 1) := by decide +kernel
theorem dX16_runOut_268 : decode cX16_runOut 268 = .ok (.goto 5, 3) := by decide +kernel
theorem dX16_runOut_271 : decode cX16_runOut 271 = .ok (.iload 5, 2) := by decide +kernel
theorem dX16_runOut_273 : decode cX16_runOut 273 = .ok (.iaload, 1) := by decide +kernel
theorem dX16_runOut_274 : decode cX16_runOut 274 = .ok (.if_icmp .ne 11, 3) := by decide +kernel
theorem dX16_runOut_277 : decode cX16_runOut 277 = .ok (.aload_n 0, 1) := by decide +kernel
theorem dX16_runOut_278 : decode cX16_runOut 278 = .ok (.iload 5, 2) := by decide +kernel
theorem dX16_runOut_280 : decode cX16_runOut 280 = .ok (.iload 4, 2) := by decide +kernel
theorem dX16_runOut_282 : decode cX16_runOut 282 = .ok (.invokevirtual 798, 3) := by decide +kernel
theorem dX16_runOut_285 : decode cX16_runOut 285 = .ok (.iinc 3 1, 3) := by decide +kernel
theorem dX16_runOut_288 : decode cX16_runOut 288 = .ok (.goto (-164), 3) := by decide +kernel
theorem dX16_runOut_291 : decode cX16_runOut 291 = .ok (.return_, 1) := by decide +kernel
def j_X16_runOut_285 (x1 x2 x3 : Int) (V : VV) : Option ((Int × VV) ⊕ (VV)) :=
  cnt (x3 + 1, V)
def j_X16_runOut_273 (x1 x2 x3 x4 x5 y0 y2 : Int) (V : VV) : Option ((Int × VV) ⊕ (VV)) :=
  (l2 231 44 y2 V).bind fun v1 =>
  if w32 y0 = w32 v1 then
    (f_X16_failed x5 x4 V).bind fun V1 =>
    j_X16_runOut_285 x1 x2 x3 V1
  else
    j_X16_runOut_285 x1 x2 x3 V
def j_X16_runOut_247 (x1 x2 x3 x4 x5 y1 : Int) (V : VV) : Option ((Int × VV) ⊕ (VV)) :=
  (l2 226 44 y1 V).bind fun v1 =>
  if w32 v1 = 0 then
    j_X16_runOut_285 x1 x2 x3 V
  else
    (l2 205 1280 x4 V).bind fun v2 =>
    if w32 x5 < 0 then
      j_X16_runOut_273 x1 x2 x3 x4 x5 v2 0 V
    else
      j_X16_runOut_273 x1 x2 x3 x4 x5 v2 x5 V
def b_X16_runOut_124 (x1 x2 x3 : Int) (V : VV) : Option ((Int × VV) ⊕ (VV)) :=
  if w32 x3 < w32 x2 then
    (l2 274 40 x3 V).bind fun v1 =>
    (l2 197 1280 v1 V).bind fun v2 =>
    if w32 v2 = 0 then
      j_X16_runOut_285 x1 x2 x3 V
    else
      (l2 202 1280 v1 V).bind fun v3 =>
      if w32 (w32 (V 156 11)) < w32 v3 then
        j_X16_runOut_285 x1 x2 x3 V
      else
        (l2 203 1280 v1 V).bind fun v4 =>
        (l2 162 11 5 V).bind fun v5 =>
        if w32 v5 < w32 v4 then
          (s2z 197 1280 v1 0 V).bind fun V1 =>
          (l2 199 1280 v1 V1).bind fun v6 =>
          (f_X16_lose x1 200 (5 * v1) v6 V1).bind fun V2 =>
          (l2 204 1280 v1 V2).bind fun v7 =>
          if w32 v7 < 0 then
            j_X16_runOut_285 x1 x2 x3 V2
          else
            if w32 v7 < 0 then
              j_X16_runOut_247 x1 x2 x3 v1 v7 0 V2
            else
              j_X16_runOut_247 x1 x2 x3 v1 v7 v7 V2
        else
          (f_X16_go x1 v1 V).bind fun V3 =>
          j_X16_runOut_285 x1 x2 x3 V3
  else
    xit (some V)
def l_X16_runOut_124 (x1 x2 x3 : Int) (V : VV) : Option (VV) := lpN (fun s : Int × VV => b_X16_runOut_124 x1 x2 s.1 s.2) FU (x3, V)
def j_X16_runOut_122 (x1 x2 : Int) (V : VV) : Option (VV) :=
  l_X16_runOut_124 x1 x2 0 V
def j_X16_runOut_116 (x1 x2 x3 : Int) (V : VV) : Option ((Int × Int × VV) ⊕ (VV)) :=
  cnt (x2, x3 + 1, V)
def j_X16_runOut_105 (x1 x2 x3 x4 : Int) (V : VV) : Option ((Int × Int × VV) ⊕ (VV)) :=
  (s2 274 40 x4 x3 V).bind fun V1 =>
  j_X16_runOut_116 x1 (x2 + 1) x3 V1
def j_X16_runOut_78 (x1 x2 x3 x4 y0 y3 : Int) (V : VV) : Option ((Int × VV) ⊕ ((Int × Int × VV) ⊕ (VV))) :=
  (l2 274 40 y3 V).bind fun v1 =>
  (l2 198 1280 v1 V).bind fun v2 =>
  if w32 y0 < w32 v2 then
    (l2 274 40 (x4 - 1) V).bind fun v3 =>
    (s2 274 40 x4 v3 V).bind fun V1 =>
    cnt (x4 + (-1), V1)
  else
    xit (j_X16_runOut_105 x1 x2 x3 x4 V)
def b_X16_runOut_46 (x1 x2 x3 x4 : Int) (V : VV) : Option ((Int × VV) ⊕ ((Int × Int × VV) ⊕ (VV))) :=
  if 0 < w32 x4 then
    (l2 198 1280 x3 V).bind fun v1 =>
    if 0 < w32 x4 then
      j_X16_runOut_78 x1 x2 x3 x4 v1 (x4 - 1) V
    else
      j_X16_runOut_78 x1 x2 x3 x4 v1 0 V
  else
    xit (j_X16_runOut_105 x1 x2 x3 x4 V)
def l_X16_runOut_46 (x1 x2 x3 x4 : Int) (V : VV) : Option ((Int × Int × VV) ⊕ (VV)) := lpN (fun s : Int × VV => b_X16_runOut_46 x1 x2 x3 s.1 s.2) FU (x4, V)
def b_X16_runOut_7 (x1 x2 x3 : Int) (V : VV) : Option ((Int × Int × VV) ⊕ (VV)) :=
  if w32 x3 < w32 ((40 * x1) + 40) then
    (l2 197 1280 x3 V).bind fun v1 =>
    if w32 v1 = 0 then
      j_X16_runOut_116 x1 x2 x3 V
    else
      (l2 202 1280 x3 V).bind fun v2 =>
      if w32 (w32 (V 156 11)) < w32 v2 then
        j_X16_runOut_116 x1 x2 x3 V
      else
        l_X16_runOut_46 x1 x2 x3 x2 V
  else
    xit (j_X16_runOut_122 x1 x2 V)
def l_X16_runOut_7 (x1 x2 x3 : Int) (V : VV) : Option (VV) := lpN (fun s : Int × Int × VV => b_X16_runOut_7 x1 s.1 s.2.1 s.2.2) FU (x2, x3, V)
def f_X16_runOut (x1 : Int) (V : VV) : Option (VV) :=
  l_X16_runOut_7 x1 0 (40 * x1) V
theorem s_X16_runOut_285 {g : GG} {d : Nat} (hD : 10 ≤ d) {x1 x2 x3 : Int} {M : MM} (hM : LM M) {V : VV} {o : AV × MM} {P : ((Int × VV) ⊕ (VV)) → Prop} (c0 : ∀ s : Int × VV, P (.inl s) → Sem g d YX16_runOut 124 [(1, 156), (0, x1), (0, x2), (0, s.1), (9, 0), (9, 0)] [] (wr M s.2) o) (r0 : ∀ r : VV, P (.inr r) → o = ((9, 0), (wr M r))) {z : (Int × VV) ⊕ (VV)} (h : j_X16_runOut_285 x1 x2 x3 V = some z) (hz : P z) : Sem g d YX16_runOut 285 [(1, 156), (0, x1), (0, x2), (0, x3), (9, 0), (9, 0)] [] (wr M V) o := by
  delta j_X16_runOut_285 at h
  refine S_iinc dX16_runOut_285 rfl rfl rfl ?_
  change Sem g d YX16_runOut 288 [(1, 156), (0, x1), (0, x2), (0, x3 + 1), (9, 0), (9, 0)] [] (wr M V) o
  refine S_goto (tgt := 124) dX16_runOut_288 rfl ?_
  exact c0 (x3 + 1, V) (some_P (P := fun r => P r) h hz)
theorem s_X16_runOut_273 {g : GG} {d : Nat} (hD : 10 ≤ d) {x1 x2 x3 x4 x5 y0 y2 : Int} {M : MM} (hM : LM M) {V : VV} {o : AV × MM} {P : ((Int × VV) ⊕ (VV)) → Prop} (c0 : ∀ s : Int × VV, P (.inl s) → Sem g d YX16_runOut 124 [(1, 156), (0, x1), (0, x2), (0, s.1), (9, 0), (9, 0)] [] (wr M s.2) o) (r0 : ∀ r : VV, P (.inr r) → o = ((9, 0), (wr M r))) {z : (Int × VV) ⊕ (VV)} (h : j_X16_runOut_273 x1 x2 x3 x4 x5 y0 y2 V = some z) (hz : P z) : Sem g d YX16_runOut 273 [(1, 156), (0, x1), (0, x2), (0, x3), (0, x4), (0, x5)] [(0, y2), (1, 231), (0, y0)] (wr M V) o := by
  delta j_X16_runOut_273 at h
  refine P2_lai hM (a := 231) (n := 44) rfl dX16_runOut_273 h (fun v1 h => ?_)
  refine P_icmp_ne (tgt := 285) dX16_runOut_274 rfl h (fun h => ?_) (fun h => ?_)
  · refine S_weak (ls' := [(1, 156), (0, x1), (0, x2), (0, x3), (9, 0), (9, 0)]) ⟨Or.inr rfl, ⟨Or.inr rfl, ⟨Or.inr rfl, ⟨Or.inr rfl, ⟨Or.inl rfl, ⟨Or.inl rfl, trivial⟩⟩⟩⟩⟩⟩ ?_
    exact s_X16_runOut_285 hD hM c0 r0 h hz
  · refine S_aload_n (i := 0) dX16_runOut_277 rfl rfl ?_
    refine S_iload dX16_runOut_278 rfl ?_
    refine S_iload dX16_runOut_280 rfl ?_
    refine P2_invVm hM [(0, x5), (0, x4)] [] CVX16_failed MLX16_798 dX16_runOut_282 rfl rfl rfl rfl (by omega) h (fun r h => F_X16_failed (by omega) hM h) (fun V1 h => ?_)
    refine S_weak (ls' := [(1, 156), (0, x1), (0, x2), (0, x3), (9, 0), (9, 0)]) ⟨Or.inr rfl, ⟨Or.inr rfl, ⟨Or.inr rfl, ⟨Or.inr rfl, ⟨Or.inl rfl, ⟨Or.inl rfl, trivial⟩⟩⟩⟩⟩⟩ ?_
    exact s_X16_runOut_285 hD hM c0 r0 h hz
theorem s_X16_runOut_247 {g : GG} {d : Nat} (hD : 10 ≤ d) {x1 x2 x3 x4 x5 y1 : Int} {M : MM} (hM : LM M) {V : VV} {o : AV × MM} {P : ((Int × VV) ⊕ (VV)) → Prop} (c0 : ∀ s : Int × VV, P (.inl s) → Sem g d YX16_runOut 124 [(1, 156), (0, x1), (0, x2), (0, s.1), (9, 0), (9, 0)] [] (wr M s.2) o) (r0 : ∀ r : VV, P (.inr r) → o = ((9, 0), (wr M r))) {z : (Int × VV) ⊕ (VV)} (h : j_X16_runOut_247 x1 x2 x3 x4 x5 y1 V = some z) (hz : P z) : Sem g d YX16_runOut 247 [(1, 156), (0, x1), (0, x2), (0, x3), (0, x4), (0, x5)] [(0, y1), (1, 226)] (wr M V) o := by
  delta j_X16_runOut_247 at h
  refine P2_laz hM (a := 226) (n := 44) rfl dX16_runOut_247 h (fun v1 h => ?_)
  refine P_if_eq (tgt := 285) dX16_runOut_248 rfl h (fun h => ?_) (fun h => ?_)
  · refine S_weak (ls' := [(1, 156), (0, x1), (0, x2), (0, x3), (9, 0), (9, 0)]) ⟨Or.inr rfl, ⟨Or.inr rfl, ⟨Or.inr rfl, ⟨Or.inr rfl, ⟨Or.inl rfl, ⟨Or.inl rfl, trivial⟩⟩⟩⟩⟩⟩ ?_
    exact s_X16_runOut_285 hD hM c0 r0 h hz
  · refine S_aload_n (i := 0) dX16_runOut_251 rfl rfl ?_
    refine P2_gfr hM (a := 205) FLX16_161 rfl ⟨rfl, rfl⟩ dX16_runOut_252 ?_
    refine S_iload dX16_runOut_255 rfl ?_
    refine P2_lai hM (a := 205) (n := 1280) rfl dX16_runOut_257 h (fun v2 h => ?_)
    refine S_aload_n (i := 0) dX16_runOut_258 rfl rfl ?_
    refine P2_gfr hM (a := 231) FLX16_240 rfl ⟨rfl, rfl⟩ dX16_runOut_259 ?_
    refine S_iload dX16_runOut_262 rfl ?_
    refine P_if_ge (tgt := 271) dX16_runOut_264 rfl h (fun h => ?_) (fun h => ?_)
    · refine S_iload dX16_runOut_271 rfl ?_
      exact s_X16_runOut_273 hD hM c0 r0 h hz
    · refine S_iconst dX16_runOut_267 rfl ?_
      refine S_goto (tgt := 273) dX16_runOut_268 rfl ?_
      exact s_X16_runOut_273 hD hM c0 r0 h hz
theorem s_X16_runOut_124 {g : GG} {d : Nat} (hD : 10 ≤ d) {x1 x2 x3 : Int} {M : MM} (hM : LM M) {V : VV} {o : AV × MM} {P : ((Int × VV) ⊕ (VV)) → Prop} (c0 : ∀ s : Int × VV, P (.inl s) → Sem g d YX16_runOut 124 [(1, 156), (0, x1), (0, x2), (0, s.1), (9, 0), (9, 0)] [] (wr M s.2) o) (r0 : ∀ r : VV, P (.inr r) → o = ((9, 0), (wr M r))) {z : (Int × VV) ⊕ (VV)} (h : b_X16_runOut_124 x1 x2 x3 V = some z) (hz : P z) : Sem g d YX16_runOut 124 [(1, 156), (0, x1), (0, x2), (0, x3), (9, 0), (9, 0)] [] (wr M V) o := by
  delta b_X16_runOut_124 at h
  refine S_iload_n (i := 3) dX16_runOut_124 rfl rfl ?_
  refine S_iload_n (i := 2) dX16_runOut_125 rfl rfl ?_
  refine P_icmp_ge (tgt := 291) dX16_runOut_126 rfl h (fun h => ?_) (fun h => ?_)
  · obtain ⟨z0, h, hz⟩ := xit_some' (P := fun r => P r) h hz
    obtain rfl := r0 _ (some_P (P := fun r => P (.inr r)) h hz)
    exact S_return dX16_runOut_291 rfl
  · refine S_aload_n (i := 0) dX16_runOut_129 rfl rfl ?_
    refine P2_gfr hM (a := 274) FLX16_370 rfl ⟨rfl, rfl⟩ dX16_runOut_130 ?_
    refine S_iload_n (i := 3) dX16_runOut_133 rfl rfl ?_
    refine P2_lai hM (a := 274) (n := 40) rfl dX16_runOut_134 h (fun v1 h => ?_)
    refine S_istore dX16_runOut_135 (Nat.le_of_ble_eq_true rfl) rfl rfl ?_
    change Sem g d YX16_runOut 137 [(1, 156), (0, x1), (0, x2), (0, x3), (0, v1), (9, 0)] [] (wr M V) o
    refine S_aload_n (i := 0) dX16_runOut_137 rfl rfl ?_
    refine P2_gfr hM (a := 197) FLX16_137 rfl ⟨rfl, rfl⟩ dX16_runOut_138 ?_
    refine S_iload dX16_runOut_141 rfl ?_
    refine P2_laz hM (a := 197) (n := 1280) rfl dX16_runOut_143 h (fun v2 h => ?_)
    refine P_if_eq (tgt := 285) dX16_runOut_144 rfl h (fun h => ?_) (fun h => ?_)
    · refine S_weak (ls' := [(1, 156), (0, x1), (0, x2), (0, x3), (9, 0), (9, 0)]) ⟨Or.inr rfl, ⟨Or.inr rfl, ⟨Or.inr rfl, ⟨Or.inr rfl, ⟨Or.inl rfl, ⟨Or.inl rfl, trivial⟩⟩⟩⟩⟩⟩ ?_
      exact s_X16_runOut_285 hD hM c0 r0 h hz
    · refine S_aload_n (i := 0) dX16_runOut_147 rfl rfl ?_
      refine P2_gfr hM (a := 202) FLX16_152 rfl ⟨rfl, rfl⟩ dX16_runOut_148 ?_
      refine S_iload dX16_runOut_151 rfl ?_
      refine P2_lai hM (a := 202) (n := 1280) rfl dX16_runOut_153 h (fun v3 h => ?_)
      refine S_aload_n (i := 0) dX16_runOut_154 rfl rfl ?_
      refine P2_gfi hM FLX16_483 rfl dX16_runOut_155 ?_
      refine P_icmp_le (tgt := 164) dX16_runOut_158 rfl h (fun h => ?_) (fun h => ?_)
      · refine S_aload_n (i := 0) dX16_runOut_164 rfl rfl ?_
        refine P2_gfr hM (a := 203) FLX16_155 rfl ⟨rfl, rfl⟩ dX16_runOut_165 ?_
        refine S_iload dX16_runOut_168 rfl ?_
        refine P2_lai hM (a := 203) (n := 1280) rfl dX16_runOut_170 h (fun v4 h => ?_)
        refine S_aload_n (i := 0) dX16_runOut_171 rfl rfl ?_
        refine P2_gfr hM (a := 162) FLX16_25 rfl ⟨rfl, rfl⟩ dX16_runOut_172 ?_
        refine S_iconst dX16_runOut_175 rfl ?_
        refine P2_lai hM (a := 162) (n := 11) rfl dX16_runOut_176 h (fun v5 h => ?_)
        refine P_icmp_gt (tgt := 190) dX16_runOut_177 rfl h (fun h => ?_) (fun h => ?_)
        · refine S_aload_n (i := 0) dX16_runOut_190 rfl rfl ?_
          refine P2_gfr hM (a := 197) FLX16_137 rfl ⟨rfl, rfl⟩ dX16_runOut_191 ?_
          refine S_iload dX16_runOut_194 rfl ?_
          refine S_iconst dX16_runOut_196 rfl ?_
          refine P2_saz hM (a := 197) (n := 1280) rfl dX16_runOut_197 h (fun V1 h => ?_)
          refine S_aload_n (i := 0) dX16_runOut_198 rfl rfl ?_
          refine S_iload_n (i := 1) dX16_runOut_199 rfl rfl ?_
          refine S_aload_n (i := 0) dX16_runOut_200 rfl rfl ?_
          refine P2_gfr hM (a := 200) FLX16_146 rfl ⟨rfl, rfl⟩ dX16_runOut_201 ?_
          refine S_iconst dX16_runOut_204 rfl ?_
          refine S_iload dX16_runOut_205 rfl ?_
          refine S_imul dX16_runOut_207 ?_
          refine S_aload_n (i := 0) dX16_runOut_208 rfl rfl ?_
          refine P2_gfr hM (a := 199) FLX16_143 rfl ⟨rfl, rfl⟩ dX16_runOut_209 ?_
          refine S_iload dX16_runOut_212 rfl ?_
          refine P2_lai hM (a := 199) (n := 1280) rfl dX16_runOut_214 h (fun v6 h => ?_)
          refine P2_invVm hM [(0, x1), (1, 200), (0, 5 * v1), (0, v6)] [] CVX16_lose MLX16_768 dX16_runOut_215 rfl rfl rfl rfl (by omega) h (fun r h => F_X16_lose (by omega) hM h) (fun V2 h => ?_)
          refine S_aload_n (i := 0) dX16_runOut_218 rfl rfl ?_
          refine P2_gfr hM (a := 204) FLX16_158 rfl ⟨rfl, rfl⟩ dX16_runOut_219 ?_
          refine S_iload dX16_runOut_222 rfl ?_
          refine P2_lai hM (a := 204) (n := 1280) rfl dX16_runOut_224 h (fun v7 h => ?_)
          refine S_istore dX16_runOut_225 (Nat.le_of_ble_eq_true rfl) rfl rfl ?_
          change Sem g d YX16_runOut 227 [(1, 156), (0, x1), (0, x2), (0, x3), (0, v1), (0, v7)] [] (wr M V2) o
          refine S_iload dX16_runOut_227 rfl ?_
          refine P_if_lt (tgt := 285) dX16_runOut_229 rfl h (fun h => ?_) (fun h => ?_)
          · refine S_weak (ls' := [(1, 156), (0, x1), (0, x2), (0, x3), (9, 0), (9, 0)]) ⟨Or.inr rfl, ⟨Or.inr rfl, ⟨Or.inr rfl, ⟨Or.inr rfl, ⟨Or.inl rfl, ⟨Or.inl rfl, trivial⟩⟩⟩⟩⟩⟩ ?_
            exact s_X16_runOut_285 hD hM c0 r0 h hz
          · refine S_aload_n (i := 0) dX16_runOut_232 rfl rfl ?_
            refine P2_gfr hM (a := 226) FLX16_225 rfl ⟨rfl, rfl⟩ dX16_runOut_233 ?_
            refine S_iload dX16_runOut_236 rfl ?_
            refine P_if_ge (tgt := 245) dX16_runOut_238 rfl h (fun h => ?_) (fun h => ?_)
            · refine S_iload dX16_runOut_245 rfl ?_
              exact s_X16_runOut_247 hD hM c0 r0 h hz
            · refine S_iconst dX16_runOut_241 rfl ?_
              refine S_goto (tgt := 247) dX16_runOut_242 rfl ?_
              exact s_X16_runOut_247 hD hM c0 r0 h hz
        · refine S_aload_n (i := 0) dX16_runOut_180 rfl rfl ?_
          refine S_iload_n (i := 1) dX16_runOut_181 rfl rfl ?_
          refine S_iload dX16_runOut_182 rfl ?_
          refine P2_invVm hM [(0, x1), (0, v1)] [] CVX16_go MLX16_553 dX16_runOut_184 rfl rfl rfl rfl (by omega) h (fun r h => F_X16_go (by omega) hM h) (fun V3 h => ?_)
          refine S_goto (tgt := 285) dX16_runOut_187 rfl ?_
          refine S_weak (ls' := [(1, 156), (0, x1), (0, x2), (0, x3), (9, 0), (9, 0)]) ⟨Or.inr rfl, ⟨Or.inr rfl, ⟨Or.inr rfl, ⟨Or.inr rfl, ⟨Or.inl rfl, ⟨Or.inl rfl, trivial⟩⟩⟩⟩⟩⟩ ?_
          exact s_X16_runOut_285 hD hM c0 r0 h hz
      · refine S_goto (tgt := 285) dX16_runOut_161 rfl ?_
        refine S_weak (ls' := [(1, 156), (0, x1), (0, x2), (0, x3), (9, 0), (9, 0)]) ⟨Or.inr rfl, ⟨Or.inr rfl, ⟨Or.inr rfl, ⟨Or.inr rfl, ⟨Or.inl rfl, ⟨Or.inl rfl, trivial⟩⟩⟩⟩⟩⟩ ?_
        exact s_X16_runOut_285 hD hM c0 r0 h hz
theorem sl_X16_runOut_124 {g : GG} {d : Nat} (hD : 10 ≤ d) {x1 x2 x3 : Int} {M : MM} (hM : LM M) {V : VV} {o : AV × MM} {P : (VV) → Prop} (r0 : ∀ r : VV, P r → o = ((9, 0), (wr M r))) {z : VV} (h : l_X16_runOut_124 x1 x2 x3 V = some z) (hz : P z) : Sem g d YX16_runOut 124 [(1, 156), (0, x1), (0, x2), (0, x3), (9, 0), (9, 0)] [] (wr M V) o := by
  refine lp_sound (S := fun s : Int × VV => Sem g d YX16_runOut 124 [(1, 156), (0, x1), (0, x2), (0, s.1), (9, 0), (9, 0)] [] (wr M s.2) o) (P := P) ?_ FU (x3, V) z h hz
  intro s x hx hP
  exact s_X16_runOut_124 hD hM (P := Sum.elim (fun s : Int × VV => Sem g d YX16_runOut 124 [(1, 156), (0, x1), (0, x2), (0, s.1), (9, 0), (9, 0)] [] (wr M s.2) o) P) (fun s h => h) (fun s h => r0 s h) hx hP
theorem s_X16_runOut_122 {g : GG} {d : Nat} (hD : 10 ≤ d) {x1 x2 : Int} {M : MM} (hM : LM M) {V : VV} {o : AV × MM} {P : (VV) → Prop} (r0 : ∀ r : VV, P r → o = ((9, 0), (wr M r))) {z : VV} (h : j_X16_runOut_122 x1 x2 V = some z) (hz : P z) : Sem g d YX16_runOut 122 [(1, 156), (0, x1), (0, x2), (9, 0), (9, 0), (9, 0)] [] (wr M V) o := by
  delta j_X16_runOut_122 at h
  refine S_iconst dX16_runOut_122 rfl ?_
  refine S_istore_n (i := 3) dX16_runOut_123 rfl (Nat.le_of_ble_eq_true rfl) rfl rfl ?_
  change Sem g d YX16_runOut 124 [(1, 156), (0, x1), (0, x2), (0, 0), (9, 0), (9, 0)] [] (wr M V) o
  exact sl_X16_runOut_124 hD hM r0 h hz
theorem s_X16_runOut_116 {g : GG} {d : Nat} (hD : 10 ≤ d) {x1 x2 x3 : Int} {M : MM} (hM : LM M) {V : VV} {o : AV × MM} {P : ((Int × Int × VV) ⊕ (VV)) → Prop} (c0 : ∀ s : Int × Int × VV, P (.inl s) → Sem g d YX16_runOut 7 [(1, 156), (0, x1), (0, s.1), (0, s.2.1), (9, 0), (9, 0)] [] (wr M s.2.2) o) (r0 : ∀ r : VV, P (.inr r) → o = ((9, 0), (wr M r))) {z : (Int × Int × VV) ⊕ (VV)} (h : j_X16_runOut_116 x1 x2 x3 V = some z) (hz : P z) : Sem g d YX16_runOut 116 [(1, 156), (0, x1), (0, x2), (0, x3), (9, 0), (9, 0)] [] (wr M V) o := by
  delta j_X16_runOut_116 at h
  refine S_iinc dX16_runOut_116 rfl rfl rfl ?_
  change Sem g d YX16_runOut 119 [(1, 156), (0, x1), (0, x2), (0, x3 + 1), (9, 0), (9, 0)] [] (wr M V) o
  refine S_goto (tgt := 7) dX16_runOut_119 rfl ?_
  exact c0 (x2, x3 + 1, V) (some_P (P := fun r => P r) h hz)
theorem s_X16_runOut_105 {g : GG} {d : Nat} (hD : 10 ≤ d) {x1 x2 x3 x4 : Int} {M : MM} (hM : LM M) {V : VV} {o : AV × MM} {P : ((Int × Int × VV) ⊕ (VV)) → Prop} (c0 : ∀ s : Int × Int × VV, P (.inl s) → Sem g d YX16_runOut 7 [(1, 156), (0, x1), (0, s.1), (0, s.2.1), (9, 0), (9, 0)] [] (wr M s.2.2) o) (r0 : ∀ r : VV, P (.inr r) → o = ((9, 0), (wr M r))) {z : (Int × Int × VV) ⊕ (VV)} (h : j_X16_runOut_105 x1 x2 x3 x4 V = some z) (hz : P z) : Sem g d YX16_runOut 105 [(1, 156), (0, x1), (0, x2), (0, x3), (0, x4), (9, 0)] [] (wr M V) o := by
  delta j_X16_runOut_105 at h
  refine S_aload_n (i := 0) dX16_runOut_105 rfl rfl ?_
  refine P2_gfr hM (a := 274) FLX16_370 rfl ⟨rfl, rfl⟩ dX16_runOut_106 ?_
  refine S_iload dX16_runOut_109 rfl ?_
  refine S_iload_n (i := 3) dX16_runOut_111 rfl rfl ?_
  refine P2_sai hM (a := 274) (n := 40) rfl dX16_runOut_112 h (fun V1 h => ?_)
  refine S_iinc dX16_runOut_113 rfl rfl rfl ?_
  change Sem g d YX16_runOut 116 [(1, 156), (0, x1), (0, x2 + 1), (0, x3), (0, x4), (9, 0)] [] (wr M V1) o
  refine S_weak (ls' := [(1, 156), (0, x1), (0, x2 + 1), (0, x3), (9, 0), (9, 0)]) ⟨Or.inr rfl, ⟨Or.inr rfl, ⟨Or.inr rfl, ⟨Or.inr rfl, ⟨Or.inl rfl, ⟨Or.inl rfl, trivial⟩⟩⟩⟩⟩⟩ ?_
  exact s_X16_runOut_116 hD hM c0 r0 h hz
theorem s_X16_runOut_78 {g : GG} {d : Nat} (hD : 10 ≤ d) {x1 x2 x3 x4 y0 y3 : Int} {M : MM} (hM : LM M) {V : VV} {o : AV × MM} {P : ((Int × VV) ⊕ ((Int × Int × VV) ⊕ (VV))) → Prop} (c1 : ∀ s : Int × VV, P (.inl s) → Sem g d YX16_runOut 46 [(1, 156), (0, x1), (0, x2), (0, x3), (0, s.1), (9, 0)] [] (wr M s.2) o) (c0 : ∀ s : Int × Int × VV, P (.inr (.inl s)) → Sem g d YX16_runOut 7 [(1, 156), (0, x1), (0, s.1), (0, s.2.1), (9, 0), (9, 0)] [] (wr M s.2.2) o) (r0 : ∀ r : VV, P (.inr (.inr r)) → o = ((9, 0), (wr M r))) {z : (Int × VV) ⊕ ((Int × Int × VV) ⊕ (VV))} (h : j_X16_runOut_78 x1 x2 x3 x4 y0 y3 V = some z) (hz : P z) : Sem g d YX16_runOut 78 [(1, 156), (0, x1), (0, x2), (0, x3), (0, x4), (9, 0)] [(0, y3), (1, 274), (1, 198), (0, y0)] (wr M V) o := by
  delta j_X16_runOut_78 at h
  refine P2_lai hM (a := 274) (n := 40) rfl dX16_runOut_78 h (fun v1 h => ?_)
  refine P2_lai hM (a := 198) (n := 1280) rfl dX16_runOut_79 h (fun v2 h => ?_)
  refine P_icmp_ge (tgt := 105) dX16_runOut_80 rfl h (fun h => ?_) (fun h => ?_)
  · obtain ⟨z0, h, hz⟩ := xit_some' (P := fun r => P r) h hz
    exact s_X16_runOut_105 hD hM (P := fun r => P (.inr r)) c0 r0 h hz
  · refine S_aload_n (i := 0) dX16_runOut_83 rfl rfl ?_
    refine P2_gfr hM (a := 274) FLX16_370 rfl ⟨rfl, rfl⟩ dX16_runOut_84 ?_
    refine S_iload dX16_runOut_87 rfl ?_
    refine S_aload_n (i := 0) dX16_runOut_89 rfl rfl ?_
    refine P2_gfr hM (a := 274) FLX16_370 rfl ⟨rfl, rfl⟩ dX16_runOut_90 ?_
    refine S_iload dX16_runOut_93 rfl ?_
    refine S_iconst dX16_runOut_95 rfl ?_
    refine S_isub dX16_runOut_96 ?_
    refine P2_lai hM (a := 274) (n := 40) rfl dX16_runOut_97 h (fun v3 h => ?_)
    refine P2_sai hM (a := 274) (n := 40) rfl dX16_runOut_98 h (fun V1 h => ?_)
    refine S_iinc dX16_runOut_99 rfl rfl rfl ?_
    change Sem g d YX16_runOut 102 [(1, 156), (0, x1), (0, x2), (0, x3), (0, x4 + (-1)), (9, 0)] [] (wr M V1) o
    refine S_goto (tgt := 46) dX16_runOut_102 rfl ?_
    exact c1 (x4 + (-1), V1) (some_P (P := fun r => P r) h hz)
theorem s_X16_runOut_46 {g : GG} {d : Nat} (hD : 10 ≤ d) {x1 x2 x3 x4 : Int} {M : MM} (hM : LM M) {V : VV} {o : AV × MM} {P : ((Int × VV) ⊕ ((Int × Int × VV) ⊕ (VV))) → Prop} (c1 : ∀ s : Int × VV, P (.inl s) → Sem g d YX16_runOut 46 [(1, 156), (0, x1), (0, x2), (0, x3), (0, s.1), (9, 0)] [] (wr M s.2) o) (c0 : ∀ s : Int × Int × VV, P (.inr (.inl s)) → Sem g d YX16_runOut 7 [(1, 156), (0, x1), (0, s.1), (0, s.2.1), (9, 0), (9, 0)] [] (wr M s.2.2) o) (r0 : ∀ r : VV, P (.inr (.inr r)) → o = ((9, 0), (wr M r))) {z : (Int × VV) ⊕ ((Int × Int × VV) ⊕ (VV))} (h : b_X16_runOut_46 x1 x2 x3 x4 V = some z) (hz : P z) : Sem g d YX16_runOut 46 [(1, 156), (0, x1), (0, x2), (0, x3), (0, x4), (9, 0)] [] (wr M V) o := by
  delta b_X16_runOut_46 at h
  refine S_iload dX16_runOut_46 rfl ?_
  refine P_if_le (tgt := 105) dX16_runOut_48 rfl h (fun h => ?_) (fun h => ?_)
  · obtain ⟨z0, h, hz⟩ := xit_some' (P := fun r => P r) h hz
    exact s_X16_runOut_105 hD hM (P := fun r => P (.inr r)) c0 r0 h hz
  · refine S_aload_n (i := 0) dX16_runOut_51 rfl rfl ?_
    refine P2_gfr hM (a := 198) FLX16_140 rfl ⟨rfl, rfl⟩ dX16_runOut_52 ?_
    refine S_iload_n (i := 3) dX16_runOut_55 rfl rfl ?_
    refine P2_lai hM (a := 198) (n := 1280) rfl dX16_runOut_56 h (fun v1 h => ?_)
    refine S_aload_n (i := 0) dX16_runOut_57 rfl rfl ?_
    refine P2_gfr hM (a := 198) FLX16_140 rfl ⟨rfl, rfl⟩ dX16_runOut_58 ?_
    refine S_aload_n (i := 0) dX16_runOut_61 rfl rfl ?_
    refine P2_gfr hM (a := 274) FLX16_370 rfl ⟨rfl, rfl⟩ dX16_runOut_62 ?_
    refine S_iload dX16_runOut_65 rfl ?_
    refine P_if_le (tgt := 77) dX16_runOut_67 rfl h (fun h => ?_) (fun h => ?_)
    · refine S_iconst dX16_runOut_77 rfl ?_
      exact s_X16_runOut_78 hD hM c1 c0 r0 h hz
    · refine S_iload dX16_runOut_70 rfl ?_
      refine S_iconst dX16_runOut_72 rfl ?_
      refine S_isub dX16_runOut_73 ?_
      refine S_goto (tgt := 78) dX16_runOut_74 rfl ?_
      exact s_X16_runOut_78 hD hM c1 c0 r0 h hz
theorem sl_X16_runOut_46 {g : GG} {d : Nat} (hD : 10 ≤ d) {x1 x2 x3 x4 : Int} {M : MM} (hM : LM M) {V : VV} {o : AV × MM} {P : ((Int × Int × VV) ⊕ (VV)) → Prop} (c0 : ∀ s : Int × Int × VV, P (.inl s) → Sem g d YX16_runOut 7 [(1, 156), (0, x1), (0, s.1), (0, s.2.1), (9, 0), (9, 0)] [] (wr M s.2.2) o) (r0 : ∀ r : VV, P (.inr r) → o = ((9, 0), (wr M r))) {z : (Int × Int × VV) ⊕ (VV)} (h : l_X16_runOut_46 x1 x2 x3 x4 V = some z) (hz : P z) : Sem g d YX16_runOut 46 [(1, 156), (0, x1), (0, x2), (0, x3), (0, x4), (9, 0)] [] (wr M V) o := by
  refine lp_sound (S := fun s : Int × VV => Sem g d YX16_runOut 46 [(1, 156), (0, x1), (0, x2), (0, x3), (0, s.1), (9, 0)] [] (wr M s.2) o) (P := P) ?_ FU (x4, V) z h hz
  intro s x hx hP
  exact s_X16_runOut_46 hD hM (P := Sum.elim (fun s : Int × VV => Sem g d YX16_runOut 46 [(1, 156), (0, x1), (0, x2), (0, x3), (0, s.1), (9, 0)] [] (wr M s.2) o) P) (fun s h => h) (fun s h => c0 s h) (fun s h => r0 s h) hx hP
theorem s_X16_runOut_7 {g : GG} {d : Nat} (hD : 10 ≤ d) {x1 x2 x3 : Int} {M : MM} (hM : LM M) {V : VV} {o : AV × MM} {P : ((Int × Int × VV) ⊕ (VV)) → Prop} (c0 : ∀ s : Int × Int × VV, P (.inl s) → Sem g d YX16_runOut 7 [(1, 156), (0, x1), (0, s.1), (0, s.2.1), (9, 0), (9, 0)] [] (wr M s.2.2) o) (r0 : ∀ r : VV, P (.inr r) → o = ((9, 0), (wr M r))) {z : (Int × Int × VV) ⊕ (VV)} (h : b_X16_runOut_7 x1 x2 x3 V = some z) (hz : P z) : Sem g d YX16_runOut 7 [(1, 156), (0, x1), (0, x2), (0, x3), (9, 0), (9, 0)] [] (wr M V) o := by
  delta b_X16_runOut_7 at h
  refine S_iload_n (i := 3) dX16_runOut_7 rfl rfl ?_
  refine S_bipush (z := 40) dX16_runOut_8 rfl ?_
  refine S_iload_n (i := 1) dX16_runOut_10 rfl rfl ?_
  refine S_imul dX16_runOut_11 ?_
  refine S_bipush (z := 40) dX16_runOut_12 rfl ?_
  refine S_iadd dX16_runOut_14 ?_
  refine P_icmp_ge (tgt := 122) dX16_runOut_15 rfl h (fun h => ?_) (fun h => ?_)
  · refine S_weak (ls' := [(1, 156), (0, x1), (0, x2), (9, 0), (9, 0), (9, 0)]) ⟨Or.inr rfl, ⟨Or.inr rfl, ⟨Or.inr rfl, ⟨Or.inl rfl, ⟨Or.inl rfl, ⟨Or.inl rfl, trivial⟩⟩⟩⟩⟩⟩ ?_
    obtain ⟨z0, h, hz⟩ := xit_some' (P := fun r => P r) h hz
    exact s_X16_runOut_122 hD hM (P := fun r => P (.inr r)) r0 h hz
  · refine S_aload_n (i := 0) dX16_runOut_18 rfl rfl ?_
    refine P2_gfr hM (a := 197) FLX16_137 rfl ⟨rfl, rfl⟩ dX16_runOut_19 ?_
    refine S_iload_n (i := 3) dX16_runOut_22 rfl rfl ?_
    refine P2_laz hM (a := 197) (n := 1280) rfl dX16_runOut_23 h (fun v1 h => ?_)
    refine P_if_eq (tgt := 116) dX16_runOut_24 rfl h (fun h => ?_) (fun h => ?_)
    · exact s_X16_runOut_116 hD hM c0 r0 h hz
    · refine S_aload_n (i := 0) dX16_runOut_27 rfl rfl ?_
      refine P2_gfr hM (a := 202) FLX16_152 rfl ⟨rfl, rfl⟩ dX16_runOut_28 ?_
      refine S_iload_n (i := 3) dX16_runOut_31 rfl rfl ?_
      refine P2_lai hM (a := 202) (n := 1280) rfl dX16_runOut_32 h (fun v2 h => ?_)
      refine S_aload_n (i := 0) dX16_runOut_33 rfl rfl ?_
      refine P2_gfi hM FLX16_483 rfl dX16_runOut_34 ?_
      refine P_icmp_le (tgt := 43) dX16_runOut_37 rfl h (fun h => ?_) (fun h => ?_)
      · refine S_iload_n (i := 2) dX16_runOut_43 rfl rfl ?_
        refine S_istore dX16_runOut_44 (Nat.le_of_ble_eq_true rfl) rfl rfl ?_
        change Sem g d YX16_runOut 46 [(1, 156), (0, x1), (0, x2), (0, x3), (0, x2), (9, 0)] [] (wr M V) o
        exact sl_X16_runOut_46 hD hM c0 r0 h hz
      · refine S_goto (tgt := 116) dX16_runOut_40 rfl ?_
        exact s_X16_runOut_116 hD hM c0 r0 h hz
theorem sl_X16_runOut_7 {g : GG} {d : Nat} (hD : 10 ≤ d) {x1 x2 x3 : Int} {M : MM} (hM : LM M) {V : VV} {o : AV × MM} {P : (VV) → Prop} (r0 : ∀ r : VV, P r → o = ((9, 0), (wr M r))) {z : VV} (h : l_X16_runOut_7 x1 x2 x3 V = some z) (hz : P z) : Sem g d YX16_runOut 7 [(1, 156), (0, x1), (0, x2), (0, x3), (9, 0), (9, 0)] [] (wr M V) o := by
  refine lp_sound (S := fun s : Int × Int × VV => Sem g d YX16_runOut 7 [(1, 156), (0, x1), (0, s.1), (0, s.2.1), (9, 0), (9, 0)] [] (wr M s.2.2) o) (P := P) ?_ FU (x2, x3, V) z h hz
  intro s x hx hP
  exact s_X16_runOut_7 hD hM (P := Sum.elim (fun s : Int × Int × VV => Sem g d YX16_runOut 7 [(1, 156), (0, x1), (0, s.1), (0, s.2.1), (9, 0), (9, 0)] [] (wr M s.2.2) o) P) (fun s h => h) (fun s h => r0 s h) hx hP
theorem s_X16_runOut_0 {g : GG} {d : Nat} (hD : 10 ≤ d) {x1 : Int} {M : MM} (hM : LM M) {V : VV} {o : AV × MM} {P : (VV) → Prop} (r0 : ∀ r : VV, P r → o = ((9, 0), (wr M r))) {z : VV} (h : f_X16_runOut x1 V = some z) (hz : P z) : Sem g d YX16_runOut 0 [(1, 156), (0, x1), (9, 0), (9, 0), (9, 0), (9, 0)] [] (wr M V) o := by
  delta f_X16_runOut at h
  refine S_iconst dX16_runOut_0 rfl ?_
  refine S_istore_n (i := 2) dX16_runOut_1 rfl (Nat.le_of_ble_eq_true rfl) rfl rfl ?_
  change Sem g d YX16_runOut 2 [(1, 156), (0, x1), (0, 0), (9, 0), (9, 0), (9, 0)] [] (wr M V) o
  refine S_bipush (z := 40) dX16_runOut_2 rfl ?_
  refine S_iload_n (i := 1) dX16_runOut_4 rfl rfl ?_
  refine S_imul dX16_runOut_5 ?_
  refine S_istore_n (i := 3) dX16_runOut_6 rfl (Nat.le_of_ble_eq_true rfl) rfl rfl ?_
  change Sem g d YX16_runOut 7 [(1, 156), (0, x1), (0, 0), (0, 40 * x1), (9, 0), (9, 0)] [] (wr M V) o
  exact sl_X16_runOut_7 hD hM r0 h hz
theorem F_X16_runOut {g : GG} {d : Nat} (hD : 10 ≤ d) {x1 : Int} {M : MM} (hM : LM M) {V : VV} {r : VV} (h : f_X16_runOut x1 V = some r) : Sem g d YX16_runOut 0 (ini YX16_runOut [(1, 156), (0, x1)]) [] (wr M V) ((9, 0), (wr M r)) := by
  change Sem g d YX16_runOut 0 [(1, 156), (0, x1), (9, 0), (9, 0), (9, 0), (9, 0)] [] (wr M V) ((9, 0), (wr M r))
  exact s_X16_runOut_0 hD hM (P := fun x => x = r) (fun q e => by rw [e]) h rfl
