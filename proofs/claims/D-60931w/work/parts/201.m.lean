set_option maxRecDepth 100000
/-! PeerSearch$Term.compare(LPeerSearch$Cutter;I)I -/
theorem dX29_compare_0 : decode cX29_compare 0 = .ok (.aload_n 0, 1) := by decide +kernel
theorem dX29_compare_1 : decode cX29_compare 1 = .ok (.getfield 26, 3) := by decide +kernel
theorem dX29_compare_4 : decode cX29_compare 4 = .ok (.aload_n 1, 1) := by decide +kernel
theorem dX29_compare_5 : decode cX29_compare 5 = .ok (.getfield 30, 3) := by decide +kernel
theorem dX29_compare_8 : decode cX29_compare 8 = .ok (.iload_n 2, 1) := by decide +kernel
theorem dX29_compare_9 : decode cX29_compare 9 = .ok (.iaload, 1) := by decide +kernel
theorem dX29_compare_10 : decode cX29_compare 10 = .ok (.invokestatic 35, 3) := by decide +kernel
theorem dX29_compare_13 : decode cX29_compare 13 = .ok (.istore_n 3, 1) := by decide +kernel
theorem dX29_compare_14 : decode cX29_compare 14 = .ok (.iconst 0, 1) := by decide +kernel
theorem dX29_compare_15 : decode cX29_compare 15 = .ok (.istore 4, 2) := by decide +kernel
theorem dX29_compare_17 : decode cX29_compare 17 = .ok (.iload 4, 2) := by decide +kernel
theorem dX29_compare_19 : decode cX29_compare 19 = .ok (.iload_n 3, 1) := by decide +kernel
theorem dX29_compare_20 : decode cX29_compare 20 = .ok (.if_icmp .ge 52, 3) := by decide +kernel
theorem dX29_compare_23 : decode cX29_compare 23 = .ok (.aload_n 0, 1) := by decide +kernel
theorem dX29_compare_24 : decode cX29_compare 24 = .ok (.getfield 9, 3) := by decide +kernel
theorem dX29_compare_27 : decode cX29_compare 27 = .ok (.iload 4, 2) := by decide +kernel
theorem dX29_compare_29 : decode cX29_compare 29 = .ok (.baload, 1) := by decide +kernel
theorem dX29_compare_30 : decode cX29_compare 30 = .ok (.aload_n 1, 1) := by decide +kernel
theorem dX29_compare_31 : decode cX29_compare 31 = .ok (.getfield 41, 3) := by decide +kernel
theorem dX29_compare_34 : decode cX29_compare 34 = .ok (.bipush 12, 2) := by decide +kernel
theorem dX29_compare_36 : decode cX29_compare 36 = .ok (.iload_n 2, 1) := by decide +kernel
theorem dX29_compare_37 : decode cX29_compare 37 = .ok (.imul, 1) := by decide +kernel
theorem dX29_compare_38 : decode cX29_compare 38 = .ok (.iload 4, 2) := by decide +kernel
theorem dX29_compare_40 : decode cX29_compare 40 = .ok (.iadd, 1) := by decide +kernel
theorem dX29_compare_41 : decode cX29_compare 41 = .ok (.baload, 1) := by decide +kernel
theorem dX29_compare_42 : decode cX29_compare 42 = .ok (.if_icmp .eq 24, 3) := by decide +kernel
theorem dX29_compare_45 : decode cX29_compare 45 = .ok (.aload_n 0, 1) := by decide +kernel
theorem dX29_compare_46 : decode cX29_compare 46 = .ok (.getfield 9, 3) := by decide +kernel
theorem dX29_compare_49 : decode cX29_compare 49 = .ok (.iload 4, 2) := by decide +kernel
theorem dX29_compare_51 : decode cX29_compare 51 = .ok (.baload, 1) := by decide +kernel
theorem dX29_compare_52 : decode cX29_compare 52 = .ok (.aload_n 1, 1) := by decide +kernel
theorem dX29_compare_53 : decode cX29_compare 53 = .ok (.getfield 41, 3) := by decide +kernel
theorem dX29_compare_56 : decode cX29_compare 56 = .ok (.bipush 12, 2) := by decide +kernel
theorem dX29_compare_58 : decode cX29_compare 58 = .ok (.iload_n 2, 1) := by decide +kernel
theorem dX29_compare_59 : decode cX29_compare 59 = .ok (.imul, 1) := by decide +kernel
theorem dX29_compare_60 : decode cX29_compare 60 = .ok (.iload 4, 2) := by decide +kernel
theorem dX29_compare_62 : decode cX29_compare 62 = .ok (.iadd, 1) := by decide +kernel
theorem dX29_compare_63 : decode cX29_compare 63 = .ok (.baload, 1) := by decide +kernel
theorem dX29_compare_64 : decode cX29_compare 64 = .ok (.isub, 1) := by decide +kernel
theorem dX29_compare_65 : decode cX29_compare 65 = .ok (.ireturn, 1) := by decide +kernel
theorem dX29_compare_66 : decode cX29_compare 66 = .ok (.iinc 4 1, 3) := by decide +kernel
theorem dX29_compare_69 : decode cX29_compare 69 = .ok (.goto (-52), 3) := by decide +kernel
theorem dX29_compare_72 : decode cX29_compare 72 = .ok (.aload_n 0, 1) := by decide +kernel
theorem dX29_compare_73 : decode cX29_compare 73 = .ok (.getfield 26, 3) := by decide +kernel
theorem dX29_compare_76 : decode cX29_compare 76 = .ok (.aload_n 1, 1) := by decide +kernel
theorem dX29_compare_77 : decode cX29_compare 77 = .ok (.getfield 30, 3) := by decide +kernel
theorem dX29_compare_80 : decode cX29_compare 80 = .ok (.iload_n 2, 1) := by decide +kernel
theorem dX29_compare_81 : decode cX29_compare 81 = .ok (.iaload, 1) := by decide +kernel
theorem dX29_compare_82 : decode cX29_compare 82 = .ok (.isub, 1) := by decide +kernel
theorem dX29_compare_83 : decode cX29_compare 83 = .ok (.ireturn, 1) := by decide +kernel
def j_X29_compare_72 (x0 x1 x2 : Int) (M : MM) : Option (Int) :=
  (gfi 29 1 x0 M).bind fun v1 =>
  (gfr 2 1 x1 M).bind fun v2 =>
  (lai v2 x2 M).bind fun v3 =>
  some (v1 - v3)
def j_X29_compare_45 (x0 x1 x2 x4 : Int) (M : MM) : Option (Int) :=
  (gfr 29 0 x0 M).bind fun v1 =>
  (lab v1 x4 M).bind fun v2 =>
  (gfr 2 0 x1 M).bind fun v3 =>
  (lab v3 ((12 * x2) + x4) M).bind fun v4 =>
  some (v2 - v4)
def b_X29_compare_17 (x0 x1 x2 x3 x4 : Int) (M : MM) : Option ((Int) ⊕ (Int)) :=
  if w32 x4 < w32 x3 then
    (gfr 29 0 x0 M).bind fun v1 =>
    (lab v1 x4 M).bind fun v2 =>
    (gfr 2 0 x1 M).bind fun v3 =>
    (lab v3 ((12 * x2) + x4) M).bind fun v4 =>
    if w32 v2 = w32 v4 then
      cnt (x4 + 1)
    else
      xit (j_X29_compare_45 x0 x1 x2 x4 M)
  else
    xit (j_X29_compare_72 x0 x1 x2 M)
def l_X29_compare_17 (x0 x1 x2 x3 x4 : Int) (M : MM) : Option (Int) := lpN (fun s : Int => b_X29_compare_17 x0 x1 x2 x3 s M) FU x4
def f_X29_compare (x0 x1 x2 : Int) (M : MM) : Option (Int) :=
  (gfi 29 1 x0 M).bind fun v1 =>
  (gfr 2 1 x1 M).bind fun v2 =>
  (lai v2 x2 M).bind fun v3 =>
  l_X29_compare_17 x0 x1 x2 (jmin v1 v3) 0 M
theorem s_X29_compare_72 {g : GG} {d : Nat} (hD : 1 ≤ d) {x0 x1 x2 : Int} {M : MM} {o : AV × MM} {P : (Int) → Prop} (r0 : ∀ r : Int, P r → o = ((0, r), M)) {z : Int} (h : j_X29_compare_72 x0 x1 x2 M = some z) (hz : P z) : Sem g d YX29_compare 72 [(1, x0), (1, x1), (0, x2), (9, 0), (9, 0)] [] M o := by
  delta j_X29_compare_72 at h
  refine S_aload_n (i := 0) dX29_compare_72 rfl rfl ?_
  refine P_gfi FLX29_26 rfl dX29_compare_73 h (fun v1 h => ?_)
  refine S_aload_n (i := 1) dX29_compare_76 rfl rfl ?_
  refine P_gfr FLX29_30 rfl dX29_compare_77 h (fun v2 h => ?_)
  refine S_iload_n (i := 2) dX29_compare_80 rfl rfl ?_
  refine P_lai dX29_compare_81 h (fun v3 h => ?_)
  refine S_isub dX29_compare_82 ?_
  obtain rfl := r0 _ (some_P (P := fun r => P r) h hz)
  exact P_ret dX29_compare_83 rfl (Or.inl rfl)
theorem s_X29_compare_45 {g : GG} {d : Nat} (hD : 1 ≤ d) {x0 x1 x2 x4 : Int} {M : MM} {o : AV × MM} {P : (Int) → Prop} (r0 : ∀ r : Int, P r → o = ((0, r), M)) {z : Int} (h : j_X29_compare_45 x0 x1 x2 x4 M = some z) (hz : P z) : Sem g d YX29_compare 45 [(1, x0), (1, x1), (0, x2), (9, 0), (0, x4)] [] M o := by
  delta j_X29_compare_45 at h
  refine S_aload_n (i := 0) dX29_compare_45 rfl rfl ?_
  refine P_gfr FLX29_9 rfl dX29_compare_46 h (fun v1 h => ?_)
  refine S_iload dX29_compare_49 rfl ?_
  refine P_lab dX29_compare_51 h (fun v2 h => ?_)
  refine S_aload_n (i := 1) dX29_compare_52 rfl rfl ?_
  refine P_gfr FLX29_41 rfl dX29_compare_53 h (fun v3 h => ?_)
  refine S_bipush (z := 12) dX29_compare_56 rfl ?_
  refine S_iload_n (i := 2) dX29_compare_58 rfl rfl ?_
  refine S_imul dX29_compare_59 ?_
  refine S_iload dX29_compare_60 rfl ?_
  refine S_iadd dX29_compare_62 ?_
  refine P_lab dX29_compare_63 h (fun v4 h => ?_)
  refine S_isub dX29_compare_64 ?_
  obtain rfl := r0 _ (some_P (P := fun r => P r) h hz)
  exact P_ret dX29_compare_65 rfl (Or.inl rfl)
theorem s_X29_compare_17 {g : GG} {d : Nat} (hD : 1 ≤ d) {x0 x1 x2 x3 x4 : Int} {M : MM} {o : AV × MM} {P : ((Int) ⊕ (Int)) → Prop} (c0 : ∀ s : Int, P (.inl s) → Sem g d YX29_compare 17 [(1, x0), (1, x1), (0, x2), (0, x3), (0, s)] [] M o) (r0 : ∀ r : Int, P (.inr r) → o = ((0, r), M)) {z : (Int) ⊕ (Int)} (h : b_X29_compare_17 x0 x1 x2 x3 x4 M = some z) (hz : P z) : Sem g d YX29_compare 17 [(1, x0), (1, x1), (0, x2), (0, x3), (0, x4)] [] M o := by
  delta b_X29_compare_17 at h
  refine S_iload dX29_compare_17 rfl ?_
  refine S_iload_n (i := 3) dX29_compare_19 rfl rfl ?_
  refine P_icmp_ge (tgt := 72) dX29_compare_20 rfl h (fun h => ?_) (fun h => ?_)
  · refine S_weak (ls' := [(1, x0), (1, x1), (0, x2), (9, 0), (9, 0)]) ⟨Or.inr rfl, ⟨Or.inr rfl, ⟨Or.inr rfl, ⟨Or.inl rfl, ⟨Or.inl rfl, trivial⟩⟩⟩⟩⟩ ?_
    obtain ⟨z0, h, hz⟩ := xit_some' (P := fun r => P r) h hz
    exact s_X29_compare_72 hD (P := fun r => P (.inr r)) r0 h hz
  · refine S_aload_n (i := 0) dX29_compare_23 rfl rfl ?_
    refine P_gfr FLX29_9 rfl dX29_compare_24 h (fun v1 h => ?_)
    refine S_iload dX29_compare_27 rfl ?_
    refine P_lab dX29_compare_29 h (fun v2 h => ?_)
    refine S_aload_n (i := 1) dX29_compare_30 rfl rfl ?_
    refine P_gfr FLX29_41 rfl dX29_compare_31 h (fun v3 h => ?_)
    refine S_bipush (z := 12) dX29_compare_34 rfl ?_
    refine S_iload_n (i := 2) dX29_compare_36 rfl rfl ?_
    refine S_imul dX29_compare_37 ?_
    refine S_iload dX29_compare_38 rfl ?_
    refine S_iadd dX29_compare_40 ?_
    refine P_lab dX29_compare_41 h (fun v4 h => ?_)
    refine P_icmp_eq (tgt := 66) dX29_compare_42 rfl h (fun h => ?_) (fun h => ?_)
    · refine S_iinc dX29_compare_66 rfl rfl rfl ?_
      change Sem g d YX29_compare 69 [(1, x0), (1, x1), (0, x2), (0, x3), (0, x4 + 1)] [] M o
      refine S_goto (tgt := 17) dX29_compare_69 rfl ?_
      exact c0 (x4 + 1) (some_P (P := fun r => P r) h hz)
    · refine S_weak (ls' := [(1, x0), (1, x1), (0, x2), (9, 0), (0, x4)]) ⟨Or.inr rfl, ⟨Or.inr rfl, ⟨Or.inr rfl, ⟨Or.inl rfl, ⟨Or.inr rfl, trivial⟩⟩⟩⟩⟩ ?_
      obtain ⟨z0, h, hz⟩ := xit_some' (P := fun r => P r) h hz
      exact s_X29_compare_45 hD (P := fun r => P (.inr r)) r0 h hz
theorem sl_X29_compare_17 {g : GG} {d : Nat} (hD : 1 ≤ d) {x0 x1 x2 x3 x4 : Int} {M : MM} {o : AV × MM} {P : (Int) → Prop} (r0 : ∀ r : Int, P r → o = ((0, r), M)) {z : Int} (h : l_X29_compare_17 x0 x1 x2 x3 x4 M = some z) (hz : P z) : Sem g d YX29_compare 17 [(1, x0), (1, x1), (0, x2), (0, x3), (0, x4)] [] M o := by
  refine lp_sound (S := fun s : Int => Sem g d YX29_compare 17 [(1, x0), (1, x1), (0, x2), (0, x3), (0, s)] [] M o) (P := P) ?_ FU x4 z h hz
  intro s x hx hP
  exact s_X29_compare_17 hD (P := Sum.elim (fun s : Int => Sem g d YX29_compare 17 [(1, x0), (1, x1), (0, x2), (0, x3), (0, s)] [] M o) P) (fun s h => h) (fun s h => r0 s h) hx hP
theorem s_X29_compare_0 {g : GG} {d : Nat} (hD : 1 ≤ d) {x0 x1 x2 : Int} {M : MM} {o : AV × MM} {P : (Int) → Prop} (r0 : ∀ r : Int, P r → o = ((0, r), M)) {z : Int} (h : f_X29_compare x0 x1 x2 M = some z) (hz : P z) : Sem g d YX29_compare 0 [(1, x0), (1, x1), (0, x2), (9, 0), (9, 0)] [] M o := by
  delta f_X29_compare at h
  refine S_aload_n (i := 0) dX29_compare_0 rfl rfl ?_
  refine P_gfi FLX29_26 rfl dX29_compare_1 h (fun v1 h => ?_)
  refine S_aload_n (i := 1) dX29_compare_4 rfl rfl ?_
  refine P_gfr FLX29_30 rfl dX29_compare_5 h (fun v2 h => ?_)
  refine S_iload_n (i := 2) dX29_compare_8 rfl rfl ?_
  refine P_lai dX29_compare_9 h (fun v3 h => ?_)
  refine S_min q1718 dX29_compare_10 rfl (by omega) ?_
  refine S_istore_n (i := 3) dX29_compare_13 rfl (Nat.le_of_ble_eq_true rfl) rfl rfl ?_
  change Sem g d YX29_compare 14 [(1, x0), (1, x1), (0, x2), (0, jmin v1 v3), (9, 0)] [] M o
  refine S_iconst dX29_compare_14 rfl ?_
  refine S_istore dX29_compare_15 (Nat.le_of_ble_eq_true rfl) rfl rfl ?_
  change Sem g d YX29_compare 17 [(1, x0), (1, x1), (0, x2), (0, jmin v1 v3), (0, 0)] [] M o
  exact sl_X29_compare_17 hD r0 h hz
theorem F_X29_compare {g : GG} {d : Nat} (hD : 1 ≤ d) {x0 x1 x2 : Int} {M : MM} {r : Int} (h : f_X29_compare x0 x1 x2 M = some r) : Sem g d YX29_compare 0 (ini YX29_compare [(1, x0), (1, x1), (0, x2)]) [] M ((0, r), M) := by
  change Sem g d YX29_compare 0 [(1, x0), (1, x1), (0, x2), (9, 0), (9, 0)] [] M ((0, r), M)
  exact s_X29_compare_0 hD (P := fun x => x = r) (fun q e => by rw [e]) h rfl
/-! PeerSearch$Library.find(LPeerSearch$Cutter;I)I -/
theorem dX19_find_0 : decode cX19_find 0 = .ok (.iconst 0, 1) := by decide +kernel
theorem dX19_find_1 : decode cX19_find 1 = .ok (.istore_n 3, 1) := by decide +kernel
theorem dX19_find_2 : decode cX19_find 2 = .ok (.iload_n 3, 1) := by decide +kernel
theorem dX19_find_3 : decode cX19_find 3 = .ok (.aload_n 0, 1) := by decide +kernel
theorem dX19_find_4 : decode cX19_find 4 = .ok (.getfield 17, 3) := by decide +kernel
theorem dX19_find_7 : decode cX19_find 7 = .ok (.if_icmp .ge 23, 3) := by decide +kernel
theorem dX19_find_10 : decode cX19_find 10 = .ok (.aload_n 0, 1) := by decide +kernel
theorem dX19_find_11 : decode cX19_find 11 = .ok (.getfield 11, 3) := by decide +kernel
theorem dX19_find_14 : decode cX19_find 14 = .ok (.iload_n 3, 1) := by decide +kernel
theorem dX19_find_15 : decode cX19_find 15 = .ok (.aaload, 1) := by decide +kernel
theorem dX19_find_16 : decode cX19_find 16 = .ok (.aload_n 1, 1) := by decide +kernel
theorem dX19_find_17 : decode cX19_find 17 = .ok (.iload_n 2, 1) := by decide +kernel
theorem dX19_find_18 : decode cX19_find 18 = .ok (.invokevirtual 21, 3) := by decide +kernel
theorem dX19_find_21 : decode cX19_find 21 = .ok (.ifCond .ge 9, 3) := by decide +kernel
theorem dX19_find_24 : decode cX19_find 24 = .ok (.iinc 3 1, 3) := by decide +kernel
theorem dX19_find_27 : decode cX19_find 27 = .ok (.goto (-25), 3) := by decide +kernel
theorem dX19_find_30 : decode cX19_find 30 = .ok (.iload_n 3, 1) := by decide +kernel
theorem dX19_find_31 : decode cX19_find 31 = .ok (.aload_n 0, 1) := by decide +kernel
theorem dX19_find_32 : decode cX19_find 32 = .ok (.getfield 17, 3) := by decide +kernel
theorem dX19_find_35 : decode cX19_find 35 = .ok (.if_icmp .ge 21, 3) := by decide +kernel
theorem dX19_find_38 : decode cX19_find 38 = .ok (.aload_n 0, 1) := by decide +kernel
theorem dX19_find_39 : decode cX19_find 39 = .ok (.getfield 11, 3) := by decide +kernel
theorem dX19_find_42 : decode cX19_find 42 = .ok (.iload_n 3, 1) := by decide +kernel
theorem dX19_find_43 : decode cX19_find 43 = .ok (.aaload, 1) := by decide +kernel
theorem dX19_find_44 : decode cX19_find 44 = .ok (.aload_n 1, 1) := by decide +kernel
theorem dX19_find_45 : decode cX19_find 45 = .ok (.iload_n 2, 1) := by decide +kernel
theorem dX19_find_46 : decode cX19_find 46 = .ok (.invokevirtual 21, 3) := by decide +kernel
theorem dX19_find_49 : decode cX19_find 49 = .ok (.ifCond .ne 7, 3) := by decide +kernel
theorem dX19_find_52 : decode cX19_find 52 = .ok (.iload_n 3, 1) := by decide +kernel
theorem dX19_find_53 : decode cX19_find 53 = .ok (.goto 6, 3) := by decide +kernel
theorem dX19_find_56 : decode cX19_find 56 = .ok (.iconst (-1), 1) := by decide +kernel
theorem dX19_find_57 : decode cX19_find 57 = .ok (.iload_n 3, 1) := by decide +kernel
theorem dX19_find_58 : decode cX19_find 58 = .ok (.isub, 1) := by decide +kernel
theorem dX19_find_59 : decode cX19_find 59 = .ok (.ireturn, 1) := by decide +kernel
def j_X19_find_59 (y0 : Int) (M : MM) : Option (Int) :=
  some y0
def j_X19_find_56 (x3 : Int) (M : MM) : Option (Int) :=
  j_X19_find_59 ((-1) - x3) M
def j_X19_find_30 (x0 x1 x2 x3 : Int) (M : MM) : Option (Int) :=
  (gfi 19 1 x0 M).bind fun v1 =>
  if w32 x3 < w32 v1 then
    (gfr 19 0 x0 M).bind fun v2 =>
    (lar 10 v2 x3 M).bind fun v3 =>
    ck 29 v3 M <| (f_X29_compare v3 x1 x2 M).bind fun v4 =>
    if w32 v4 = 0 then
      j_X19_find_59 x3 M
    else
      j_X19_find_56 x3 M
  else
    j_X19_find_56 x3 M
def b_X19_find_2 (x0 x1 x2 x3 : Int) (M : MM) : Option ((Int) ⊕ (Int)) :=
  (gfi 19 1 x0 M).bind fun v1 =>
  if w32 x3 < w32 v1 then
    (gfr 19 0 x0 M).bind fun v2 =>
    (lar 10 v2 x3 M).bind fun v3 =>
    ck 29 v3 M <| (f_X29_compare v3 x1 x2 M).bind fun v4 =>
    if w32 v4 < 0 then
      cnt (x3 + 1)
    else
      xit (j_X19_find_30 x0 x1 x2 x3 M)
  else
    xit (j_X19_find_30 x0 x1 x2 x3 M)
def l_X19_find_2 (x0 x1 x2 x3 : Int) (M : MM) : Option (Int) := lpN (fun s : Int => b_X19_find_2 x0 x1 x2 s M) FU x3
def f_X19_find (x0 x1 x2 : Int) (M : MM) : Option (Int) :=
  l_X19_find_2 x0 x1 x2 0 M
theorem s_X19_find_59 {g : GG} {d : Nat} (hD : 2 ≤ d) {y0 : Int} {M : MM} {o : AV × MM} {P : (Int) → Prop} (r0 : ∀ r : Int, P r → o = ((0, r), M)) {z : Int} (h : j_X19_find_59 y0 M = some z) (hz : P z) : Sem g d YX19_find 59 [(9, 0), (9, 0), (9, 0), (9, 0)] [(0, y0)] M o := by
  delta j_X19_find_59 at h
  obtain rfl := r0 _ (some_P (P := fun r => P r) h hz)
  exact P_ret dX19_find_59 rfl (Or.inl rfl)
theorem s_X19_find_56 {g : GG} {d : Nat} (hD : 2 ≤ d) {x3 : Int} {M : MM} {o : AV × MM} {P : (Int) → Prop} (r0 : ∀ r : Int, P r → o = ((0, r), M)) {z : Int} (h : j_X19_find_56 x3 M = some z) (hz : P z) : Sem g d YX19_find 56 [(9, 0), (9, 0), (9, 0), (0, x3)] [] M o := by
  delta j_X19_find_56 at h
  refine S_iconst dX19_find_56 rfl ?_
  refine S_iload_n (i := 3) dX19_find_57 rfl rfl ?_
  refine S_isub dX19_find_58 ?_
  refine S_weak (ls' := [(9, 0), (9, 0), (9, 0), (9, 0)]) ⟨Or.inl rfl, ⟨Or.inl rfl, ⟨Or.inl rfl, ⟨Or.inl rfl, trivial⟩⟩⟩⟩ ?_
  exact s_X19_find_59 hD r0 h hz
theorem s_X19_find_30 {g : GG} {d : Nat} (hD : 2 ≤ d) {x0 x1 x2 x3 : Int} {M : MM} {o : AV × MM} {P : (Int) → Prop} (r0 : ∀ r : Int, P r → o = ((0, r), M)) {z : Int} (h : j_X19_find_30 x0 x1 x2 x3 M = some z) (hz : P z) : Sem g d YX19_find 30 [(1, x0), (1, x1), (0, x2), (0, x3)] [] M o := by
  delta j_X19_find_30 at h
  refine S_iload_n (i := 3) dX19_find_30 rfl rfl ?_
  refine S_aload_n (i := 0) dX19_find_31 rfl rfl ?_
  refine P_gfi FLX19_17 rfl dX19_find_32 h (fun v1 h => ?_)
  refine P_icmp_ge (tgt := 56) dX19_find_35 rfl h (fun h => ?_) (fun h => ?_)
  · refine S_weak (ls' := [(9, 0), (9, 0), (9, 0), (0, x3)]) ⟨Or.inl rfl, ⟨Or.inl rfl, ⟨Or.inl rfl, ⟨Or.inr rfl, trivial⟩⟩⟩⟩ ?_
    exact s_X19_find_56 hD r0 h hz
  · refine S_aload_n (i := 0) dX19_find_38 rfl rfl ?_
    refine P_gfr FLX19_11 rfl dX19_find_39 h (fun v2 h => ?_)
    refine S_iload_n (i := 3) dX19_find_42 rfl rfl ?_
    refine P_lar (t := 10) ⟨by decide, by decide⟩ dX19_find_43 h (fun v3 h => ?_)
    refine S_aload_n (i := 1) dX19_find_44 rfl rfl ?_
    refine S_iload_n (i := 2) dX19_find_45 rfl rfl ?_
    refine P_invVp 0 [(1, x1), (0, x2)] [] CVX29_compare MLX19_21 dX19_find_46 rfl rfl rfl rfl rfl (by omega) h (fun r h => F_X29_compare (by omega) h) (fun v4 h => ?_)
    refine P_if_ne (tgt := 56) dX19_find_49 rfl h (fun h => ?_) (fun h => ?_)
    · refine S_weak (ls' := [(9, 0), (9, 0), (9, 0), (0, x3)]) ⟨Or.inl rfl, ⟨Or.inl rfl, ⟨Or.inl rfl, ⟨Or.inr rfl, trivial⟩⟩⟩⟩ ?_
      exact s_X19_find_56 hD r0 h hz
    · refine S_iload_n (i := 3) dX19_find_52 rfl rfl ?_
      refine S_goto (tgt := 59) dX19_find_53 rfl ?_
      refine S_weak (ls' := [(9, 0), (9, 0), (9, 0), (9, 0)]) ⟨Or.inl rfl, ⟨Or.inl rfl, ⟨Or.inl rfl, ⟨Or.inl rfl, trivial⟩⟩⟩⟩ ?_
      exact s_X19_find_59 hD r0 h hz
theorem s_X19_find_2 {g : GG} {d : Nat} (hD : 2 ≤ d) {x0 x1 x2 x3 : Int} {M : MM} {o : AV × MM} {P : ((Int) ⊕ (Int)) → Prop} (c0 : ∀ s : Int, P (.inl s) → Sem g d YX19_find 2 [(1, x0), (1, x1), (0, x2), (0, s)] [] M o) (r0 : ∀ r : Int, P (.inr r) → o = ((0, r), M)) {z : (Int) ⊕ (Int)} (h : b_X19_find_2 x0 x1 x2 x3 M = some z) (hz : P z) : Sem g d YX19_find 2 [(1, x0), (1, x1), (0, x2), (0, x3)] [] M o := by
  delta b_X19_find_2 at h
  refine S_iload_n (i := 3) dX19_find_2 rfl rfl ?_
  refine S_aload_n (i := 0) dX19_find_3 rfl rfl ?_
  refine P_gfi FLX19_17 rfl dX19_find_4 h (fun v1 h => ?_)
  refine P_icmp_ge (tgt := 30) dX19_find_7 rfl h (fun h => ?_) (fun h => ?_)
  · obtain ⟨z0, h, hz⟩ := xit_some' (P := fun r => P r) h hz
    exact s_X19_find_30 hD (P := fun r => P (.inr r)) r0 h hz
  · refine S_aload_n (i := 0) dX19_find_10 rfl rfl ?_
    refine P_gfr FLX19_11 rfl dX19_find_11 h (fun v2 h => ?_)
    refine S_iload_n (i := 3) dX19_find_14 rfl rfl ?_
    refine P_lar (t := 10) ⟨by decide, by decide⟩ dX19_find_15 h (fun v3 h => ?_)
    refine S_aload_n (i := 1) dX19_find_16 rfl rfl ?_
    refine S_iload_n (i := 2) dX19_find_17 rfl rfl ?_
    refine P_invVp 0 [(1, x1), (0, x2)] [] CVX29_compare MLX19_21 dX19_find_18 rfl rfl rfl rfl rfl (by omega) h (fun r h => F_X29_compare (by omega) h) (fun v4 h => ?_)
    refine P_if_ge (tgt := 30) dX19_find_21 rfl h (fun h => ?_) (fun h => ?_)
    · obtain ⟨z0, h, hz⟩ := xit_some' (P := fun r => P r) h hz
      exact s_X19_find_30 hD (P := fun r => P (.inr r)) r0 h hz
    · refine S_iinc dX19_find_24 rfl rfl rfl ?_
      change Sem g d YX19_find 27 [(1, x0), (1, x1), (0, x2), (0, x3 + 1)] [] M o
      refine S_goto (tgt := 2) dX19_find_27 rfl ?_
      exact c0 (x3 + 1) (some_P (P := fun r => P r) h hz)
theorem sl_X19_find_2 {g : GG} {d : Nat} (hD : 2 ≤ d) {x0 x1 x2 x3 : Int} {M : MM} {o : AV × MM} {P : (Int) → Prop} (r0 : ∀ r : Int, P r → o = ((0, r), M)) {z : Int} (h : l_X19_find_2 x0 x1 x2 x3 M = some z) (hz : P z) : Sem g d YX19_find 2 [(1, x0), (1, x1), (0, x2), (0, x3)] [] M o := by
  refine lp_sound (S := fun s : Int => Sem g d YX19_find 2 [(1, x0), (1, x1), (0, x2), (0, s)] [] M o) (P := P) ?_ FU x3 z h hz
  intro s x hx hP
  exact s_X19_find_2 hD (P := Sum.elim (fun s : Int => Sem g d YX19_find 2 [(1, x0), (1, x1), (0, x2), (0, s)] [] M o) P) (fun s h => h) (fun s h => r0 s h) hx hP
theorem s_X19_find_0 {g : GG} {d : Nat} (hD : 2 ≤ d) {x0 x1 x2 : Int} {M : MM} {o : AV × MM} {P : (Int) → Prop} (r0 : ∀ r : Int, P r → o = ((0, r), M)) {z : Int} (h : f_X19_find x0 x1 x2 M = some z) (hz : P z) : Sem g d YX19_find 0 [(1, x0), (1, x1), (0, x2), (9, 0)] [] M o := by
  delta f_X19_find at h
  refine S_iconst dX19_find_0 rfl ?_
  refine S_istore_n (i := 3) dX19_find_1 rfl (Nat.le_of_ble_eq_true rfl) rfl rfl ?_
  change Sem g d YX19_find 2 [(1, x0), (1, x1), (0, x2), (0, 0)] [] M o
  exact sl_X19_find_2 hD r0 h hz
theorem F_X19_find {g : GG} {d : Nat} (hD : 2 ≤ d) {x0 x1 x2 : Int} {M : MM} {r : Int} (h : f_X19_find x0 x1 x2 M = some r) : Sem g d YX19_find 0 (ini YX19_find [(1, x0), (1, x1), (0, x2)]) [] M ((0, r), M) := by
  change Sem g d YX19_find 0 [(1, x0), (1, x1), (0, x2), (9, 0)] [] M ((0, r), M)
  exact s_X19_find_0 hD (P := fun x => x = r) (fun q e => by rw [e]) h rfl
/-! PeerSearch$Sha.mixed(IIII)I -/
theorem dX8_mixed_0 : decode cX8_mixed 0 = .ok (.iload_n 0, 1) := by decide +kernel
theorem dX8_mixed_1 : decode cX8_mixed 1 = .ok (.bipush 20, 2) := by decide +kernel
theorem dX8_mixed_3 : decode cX8_mixed 3 = .ok (.if_icmp .ge 16, 3) := by decide +kernel
theorem dX8_mixed_6 : decode cX8_mixed 6 = .ok (.iload_n 1, 1) := by decide +kernel
theorem dX8_mixed_7 : decode cX8_mixed 7 = .ok (.iload_n 2, 1) := by decide +kernel
theorem dX8_mixed_8 : decode cX8_mixed 8 = .ok (.iand, 1) := by decide +kernel
theorem dX8_mixed_9 : decode cX8_mixed 9 = .ok (.iload_n 1, 1) := by decide +kernel
theorem dX8_mixed_10 : decode cX8_mixed 10 = .ok (.iconst (-1), 1) := by decide +kernel
theorem dX8_mixed_11 : decode cX8_mixed 11 = .ok (.ixor, 1) := by decide +kernel
theorem dX8_mixed_12 : decode cX8_mixed 12 = .ok (.iload_n 3, 1) := by decide +kernel
theorem dX8_mixed_13 : decode cX8_mixed 13 = .ok (.iand, 1) := by decide +kernel
theorem dX8_mixed_14 : decode cX8_mixed 14 = .ok (.ior, 1) := by decide +kernel
theorem dX8_mixed_15 : decode cX8_mixed 15 = .ok (.ldc 22, 2) := by decide +kernel
theorem dX8_mixed_17 : decode cX8_mixed 17 = .ok (.iadd, 1) := by decide +kernel
theorem dX8_mixed_18 : decode cX8_mixed 18 = .ok (.ireturn, 1) := by decide +kernel
theorem dX8_mixed_19 : decode cX8_mixed 19 = .ok (.iload_n 0, 1) := by decide +kernel
theorem dX8_mixed_20 : decode cX8_mixed 20 = .ok (.bipush 40, 2) := by decide +kernel
theorem dX8_mixed_22 : decode cX8_mixed 22 = .ok (.if_icmp .ge 12, 3) := by decide +kernel
theorem dX8_mixed_25 : decode cX8_mixed 25 = .ok (.iload_n 1, 1) := by decide +kernel
theorem dX8_mixed_26 : decode cX8_mixed 26 = .ok (.iload_n 2, 1) := by decide +kernel
theorem dX8_mixed_27 : decode cX8_mixed 27 = .ok (.ixor, 1) := by decide +kernel
theorem dX8_mixed_28 : decode cX8_mixed 28 = .ok (.iload_n 3, 1) := by decide +kernel
theorem dX8_mixed_29 : decode cX8_mixed 29 = .ok (.ixor, 1) := by decide +kernel
theorem dX8_mixed_30 : decode cX8_mixed 30 = .ok (.ldc 23, 2) := by decide +kernel
theorem dX8_mixed_32 : decode cX8_mixed 32 = .ok (.iadd, 1) := by decide +kernel
theorem dX8_mixed_33 : decode cX8_mixed 33 = .ok (.ireturn, 1) := by decide +kernel
theorem dX8_mixed_34 : decode cX8_mixed 34 = .ok (.iload_n 0, 1) := by decide +kernel
theorem dX8_mixed_35 : decode cX8_mixed 35 = .ok (.bipush 60, 2) := by decide +kernel
theorem dX8_mixed_37 : decode cX8_mixed 37 = .ok (.if_icmp .ge 18, 3) := by decide +kernel
theorem dX8_mixed_40 : decode cX8_mixed 40 = .ok (.iload_n 1, 1) := by decide +kernel
theorem dX8_mixed_41 : decode cX8_mixed 41 = .ok (.iload_n 2, 1) := by decide +kernel
theorem dX8_mixed_42 : decode cX8_mixed 42 = .ok (.iand, 1) := by decide +kernel
theorem dX8_mixed_43 : decode cX8_mixed 43 = .ok (.iload_n 1, 1) := by decide +kernel
theorem dX8_mixed_44 : decode cX8_mixed 44 = .ok (.iload_n 3, 1) := by decide +kernel
theorem dX8_mixed_45 : decode cX8_mixed 45 = .ok (.iand, 1) := by decide +kernel
theorem dX8_mixed_46 : decode cX8_mixed 46 = .ok (.ior, 1) := by decide +kernel
theorem dX8_mixed_47 : decode cX8_mixed 47 = .ok (.iload_n 2, 1) := by decide +kernel
theorem dX8_mixed_48 : decode cX8_mixed 48 = .ok (.iload_n 3, 1) := by decide +kernel
theorem dX8_mixed_49 : decode cX8_mixed 49 = .ok (.iand, 1) := by decide +kernel
theorem dX8_mixed_50 : decode cX8_mixed 50 = .ok (.ior, 1) := by decide +kernel
theorem dX8_mixed_51 : decode cX8_mixed 51 = .ok (.ldc 24, 2) := by decide +kernel
theorem dX8_mixed_53 : decode cX8_mixed 53 = .ok (.iadd, 1) := by decide +kernel
theorem dX8_mixed_54 : decode cX8_mixed 54 = .ok (.ireturn, 1) := by decide +kernel
theorem dX8_mixed_55 : decode cX8_mixed 55 = .ok (.iload_n 1, 1) := by decide +kernel
theorem dX8_mixed_56 : decode cX8_mixed 56 = .ok (.iload_n 2, 1) := by decide +kernel
theorem dX8_mixed_57 : decode cX8_mixed 57 = .ok (.ixor, 1) := by decide +kernel
theorem dX8_mixed_58 : decode cX8_mixed 58 = .ok (.iload_n 3, 1) := by decide +kernel
theorem dX8_mixed_59 : decode cX8_mixed 59 = .ok (.ixor, 1) := by decide +kernel
theorem dX8_mixed_60 : decode cX8_mixed 60 = .ok (.ldc 25, 2) := by decide +kernel
theorem dX8_mixed_62 : decode cX8_mixed 62 = .ok (.iadd, 1) := by decide +kernel
theorem dX8_mixed_63 : decode cX8_mixed 63 = .ok (.ireturn, 1) := by decide +kernel
def f_X8_mixed (x0 x1 x2 x3 : Int) : Option (Int) :=
  if w32 x0 < w32 20 then
    some ((bor (band x1 x2) (band (bxor x1 (-1)) x3)) + 1518500249)
  else
    if w32 x0 < w32 40 then
      some ((bxor (bxor x1 x2) x3) + 1859775393)
    else
      if w32 x0 < w32 60 then
        some ((bor (bor (band x1 x2) (band x1 x3)) (band x2 x3)) + (-1894007588))
      else
        some ((bxor (bxor x1 x2) x3) + (-899497514))
theorem s_X8_mixed_0 {g : GG} {d : Nat} (hD : 0 ≤ d) {x0 x1 x2 x3 : Int} {M : MM} {o : AV × MM} {P : (Int) → Prop} (r0 : ∀ r : Int, P r → o = ((0, r), M)) {z : Int} (h : f_X8_mixed x0 x1 x2 x3 = some z) (hz : P z) : Sem g d YX8_mixed 0 [(0, x0), (0, x1), (0, x2), (0, x3)] [] M o := by
  delta f_X8_mixed at h
  refine S_iload_n (i := 0) dX8_mixed_0 rfl rfl ?_
  refine S_bipush (z := 20) dX8_mixed_1 rfl ?_
  refine P_icmp_ge (tgt := 19) dX8_mixed_3 rfl h (fun h => ?_) (fun h => ?_)
  · refine S_iload_n (i := 0) dX8_mixed_19 rfl rfl ?_
    refine S_bipush (z := 40) dX8_mixed_20 rfl ?_
    refine P_icmp_ge (tgt := 34) dX8_mixed_22 rfl h (fun h => ?_) (fun h => ?_)
    · refine S_iload_n (i := 0) dX8_mixed_34 rfl rfl ?_
      refine S_bipush (z := 60) dX8_mixed_35 rfl ?_
      refine P_icmp_ge (tgt := 55) dX8_mixed_37 rfl h (fun h => ?_) (fun h => ?_)
      · refine S_iload_n (i := 1) dX8_mixed_55 rfl rfl ?_
        refine S_iload_n (i := 2) dX8_mixed_56 rfl rfl ?_
        refine S_ixor dX8_mixed_57 ?_
        refine S_iload_n (i := 3) dX8_mixed_58 rfl rfl ?_
        refine S_ixor dX8_mixed_59 ?_
        refine S_ldc (z := (-899497514)) kX8_25 dX8_mixed_60 ?_
        refine S_iadd dX8_mixed_62 ?_
        obtain rfl := r0 _ (some_P (P := fun r => P r) h hz)
        exact P_ret dX8_mixed_63 rfl (Or.inl rfl)
      · refine S_iload_n (i := 1) dX8_mixed_40 rfl rfl ?_
        refine S_iload_n (i := 2) dX8_mixed_41 rfl rfl ?_
        refine S_iand dX8_mixed_42 ?_
        refine S_iload_n (i := 1) dX8_mixed_43 rfl rfl ?_
        refine S_iload_n (i := 3) dX8_mixed_44 rfl rfl ?_
        refine S_iand dX8_mixed_45 ?_
        refine S_ior dX8_mixed_46 ?_
        refine S_iload_n (i := 2) dX8_mixed_47 rfl rfl ?_
        refine S_iload_n (i := 3) dX8_mixed_48 rfl rfl ?_
        refine S_iand dX8_mixed_49 ?_
        refine S_ior dX8_mixed_50 ?_
        refine S_ldc (z := (-1894007588)) kX8_24 dX8_mixed_51 ?_
        refine S_iadd dX8_mixed_53 ?_
        obtain rfl := r0 _ (some_P (P := fun r => P r) h hz)
        exact P_ret dX8_mixed_54 rfl (Or.inl rfl)
    · refine S_iload_n (i := 1) dX8_mixed_25 rfl rfl ?_
      refine S_iload_n (i := 2) dX8_mixed_26 rfl rfl ?_
      refine S_ixor dX8_mixed_27 ?_
      refine S_iload_n (i := 3) dX8_mixed_28 rfl rfl ?_
      refine S_ixor dX8_mixed_29 ?_
      refine S_ldc (z := 1859775393) kX8_23 dX8_mixed_30 ?_
      refine S_iadd dX8_mixed_32 ?_
      obtain rfl := r0 _ (some_P (P := fun r => P r) h hz)
      exact P_ret dX8_mixed_33 rfl (Or.inl rfl)
  · refine S_iload_n (i := 1) dX8_mixed_6 rfl rfl ?_
    refine S_iload_n (i := 2) dX8_mixed_7 rfl rfl ?_
    refine S_iand dX8_mixed_8 ?_
    refine S_iload_n (i := 1) dX8_mixed_9 rfl rfl ?_
    refine S_iconst dX8_mixed_10 rfl ?_
    refine S_ixor dX8_mixed_11 ?_
    refine S_iload_n (i := 3) dX8_mixed_12 rfl rfl ?_
    refine S_iand dX8_mixed_13 ?_
    refine S_ior dX8_mixed_14 ?_
    refine S_ldc (z := 1518500249) kX8_22 dX8_mixed_15 ?_
    refine S_iadd dX8_mixed_17 ?_
    obtain rfl := r0 _ (some_P (P := fun r => P r) h hz)
    exact P_ret dX8_mixed_18 rfl (Or.inl rfl)
theorem F_X8_mixed {g : GG} {d : Nat} (hD : 0 ≤ d) {x0 x1 x2 x3 : Int} {M : MM} {r : Int} (h : f_X8_mixed x0 x1 x2 x3 = some r) : Sem g d YX8_mixed 0 (ini YX8_mixed [(0, x0), (0, x1), (0, x2), (0, x3)]) [] M ((0, r), M) := by
  change Sem g d YX8_mixed 0 [(0, x0), (0, x1), (0, x2), (0, x3)] [] M ((0, r), M)
  exact s_X8_mixed_0 hD (P := fun x => x = r) (fun q e => by rw [e]) h rfl
/-! java/lang/Integer.rotateLeft(II)I -/
theorem dJ1_rotateLeft_0 : decode cJ1_rotateLeft 0 = .ok (.iload_n 0, 1) := by decide +kernel
theorem dJ1_rotateLeft_1 : decode cJ1_rotateLeft 1 = .ok (.iload_n 1, 1) := by decide +kernel
theorem dJ1_rotateLeft_2 : decode cJ1_rotateLeft 2 = .ok (.ishl, 1) := by decide +kernel
theorem dJ1_rotateLeft_3 : decode cJ1_rotateLeft 3 = .ok (.iload_n 0, 1) := by decide +kernel
theorem dJ1_rotateLeft_4 : decode cJ1_rotateLeft 4 = .ok (.iload_n 1, 1) := by decide +kernel
theorem dJ1_rotateLeft_5 : decode cJ1_rotateLeft 5 = .ok (.ineg, 1) := by decide +kernel
theorem dJ1_rotateLeft_6 : decode cJ1_rotateLeft 6 = .ok (.iushr, 1) := by decide +kernel
theorem dJ1_rotateLeft_7 : decode cJ1_rotateLeft 7 = .ok (.ior, 1) := by decide +kernel
theorem dJ1_rotateLeft_8 : decode cJ1_rotateLeft 8 = .ok (.ireturn, 1) := by decide +kernel
def f_J1_rotateLeft (x0 x1 : Int) : Option (Int) :=
  some (bor (bshl x0 x1) (bush x0 (-x1)))
theorem s_J1_rotateLeft_0 {g : GG} {d : Nat} (hD : 0 ≤ d) {x0 x1 : Int} {M : MM} {o : AV × MM} {P : (Int) → Prop} (r0 : ∀ r : Int, P r → o = ((0, r), M)) {z : Int} (h : f_J1_rotateLeft x0 x1 = some z) (hz : P z) : Sem g d YJ1_rotateLeft 0 [(0, x0), (0, x1)] [] M o := by
  delta f_J1_rotateLeft at h
  refine S_iload_n (i := 0) dJ1_rotateLeft_0 rfl rfl ?_
  refine S_iload_n (i := 1) dJ1_rotateLeft_1 rfl rfl ?_
  refine S_ishl dJ1_rotateLeft_2 ?_
  refine S_iload_n (i := 0) dJ1_rotateLeft_3 rfl rfl ?_
  refine S_iload_n (i := 1) dJ1_rotateLeft_4 rfl rfl ?_
  refine S_ineg dJ1_rotateLeft_5 ?_
  refine S_iushr dJ1_rotateLeft_6 ?_
  refine S_ior dJ1_rotateLeft_7 ?_
  obtain rfl := r0 _ (some_P (P := fun r => P r) h hz)
  exact P_ret dJ1_rotateLeft_8 rfl (Or.inl rfl)
theorem F_J1_rotateLeft {g : GG} {d : Nat} (hD : 0 ≤ d) {x0 x1 : Int} {M : MM} {r : Int} (h : f_J1_rotateLeft x0 x1 = some r) : Sem g d YJ1_rotateLeft 0 (ini YJ1_rotateLeft [(0, x0), (0, x1)]) [] M ((0, r), M) := by
  change Sem g d YJ1_rotateLeft 0 [(0, x0), (0, x1)] [] M ((0, r), M)
  exact s_J1_rotateLeft_0 hD (P := fun x => x = r) (fun q e => by rw [e]) h rfl
/-! PeerSearch$Sha.work()V -/
theorem dX8_work_0 : decode cX8_work 0 = .ok (.iconst 0, 1) := by decide +kernel
theorem dX8_work_1 : decode cX8_work 1 = .ok (.istore_n 1, 1) := by decide +kernel
theorem dX8_work_2 : decode cX8_work 2 = .ok (.iload_n 1, 1) := by decide +kernel
theorem dX8_work_3 : decode cX8_work 3 = .ok (.bipush 16, 2) := by decide +kernel
theorem dX8_work_5 : decode cX8_work 5 = .ok (.if_icmp .ge 81, 3) := by decide +kernel
theorem dX8_work_8 : decode cX8_work 8 = .ok (.aload_n 0, 1) := by decide +kernel
theorem dX8_work_9 : decode cX8_work 9 = .ok (.getfield 15, 3) := by decide +kernel
theorem dX8_work_12 : decode cX8_work 12 = .ok (.iload_n 1, 1) := by decide +kernel
theorem dX8_work_13 : decode cX8_work 13 = .ok (.aload_n 0, 1) := by decide +kernel
theorem dX8_work_14 : decode cX8_work 14 = .ok (.getfield 18, 3) := by decide +kernel
theorem dX8_work_17 : decode cX8_work 17 = .ok (.iconst 4, 1) := by decide +kernel
theorem dX8_work_18 : decode cX8_work 18 = .ok (.iload_n 1, 1) := by decide +kernel
theorem dX8_work_19 : decode cX8_work 19 = .ok (.imul, 1) := by decide +kernel
theorem dX8_work_20 : decode cX8_work 20 = .ok (.baload, 1) := by decide +kernel
theorem dX8_work_21 : decode cX8_work 21 = .ok (.sipush 255, 3) := by decide +kernel
theorem dX8_work_24 : decode cX8_work 24 = .ok (.iand, 1) := by decide +kernel
theorem dX8_work_25 : decode cX8_work 25 = .ok (.bipush 24, 2) := by decide +kernel
theorem dX8_work_27 : decode cX8_work 27 = .ok (.ishl, 1) := by decide +kernel
theorem dX8_work_28 : decode cX8_work 28 = .ok (.aload_n 0, 1) := by decide +kernel
theorem dX8_work_29 : decode cX8_work 29 = .ok (.getfield 18, 3) := by decide +kernel
theorem dX8_work_32 : decode cX8_work 32 = .ok (.iconst 4, 1) := by decide +kernel
theorem dX8_work_33 : decode cX8_work 33 = .ok (.iload_n 1, 1) := by decide +kernel
theorem dX8_work_34 : decode cX8_work 34 = .ok (.imul, 1) := by decide +kernel
theorem dX8_work_35 : decode cX8_work 35 = .ok (.iconst 1, 1) := by decide +kernel
theorem dX8_work_36 : decode cX8_work 36 = .ok (.iadd, 1) := by decide +kernel
theorem dX8_work_37 : decode cX8_work 37 = .ok (.baload, 1) := by decide +kernel
theorem dX8_work_38 : decode cX8_work 38 = .ok (.sipush 255, 3) := by decide +kernel
theorem dX8_work_41 : decode cX8_work 41 = .ok (.iand, 1) := by decide +kernel
theorem dX8_work_42 : decode cX8_work 42 = .ok (.bipush 16, 2) := by decide +kernel
theorem dX8_work_44 : decode cX8_work 44 = .ok (.ishl, 1) := by decide +kernel
theorem dX8_work_45 : decode cX8_work 45 = .ok (.ior, 1) := by decide +kernel
theorem dX8_work_46 : decode cX8_work 46 = .ok (.aload_n 0, 1) := by decide +kernel
theorem dX8_work_47 : decode cX8_work 47 = .ok (.getfield 18, 3) := by decide +kernel
theorem dX8_work_50 : decode cX8_work 50 = .ok (.iconst 4, 1) := by decide +kernel
theorem dX8_work_51 : decode cX8_work 51 = .ok (.iload_n 1, 1) := by decide +kernel
theorem dX8_work_52 : decode cX8_work 52 = .ok (.imul, 1) := by decide +kernel
theorem dX8_work_53 : decode cX8_work 53 = .ok (.iconst 2, 1) := by decide +kernel
theorem dX8_work_54 : decode cX8_work 54 = .ok (.iadd, 1) := by decide +kernel
theorem dX8_work_55 : decode cX8_work 55 = .ok (.baload, 1) := by decide +kernel
theorem dX8_work_56 : decode cX8_work 56 = .ok (.sipush 255, 3) := by decide +kernel
theorem dX8_work_59 : decode cX8_work 59 = .ok (.iand, 1) := by decide +kernel
theorem dX8_work_60 : decode cX8_work 60 = .ok (.bipush 8, 2) := by decide +kernel
theorem dX8_work_62 : decode cX8_work 62 = .ok (.ishl, 1) := by decide +kernel
theorem dX8_work_63 : decode cX8_work 63 = .ok (.ior, 1) := by decide +kernel
theorem dX8_work_64 : decode cX8_work 64 = .ok (.aload_n 0, 1) := by decide +kernel
theorem dX8_work_65 : decode cX8_work 65 = .ok (.getfield 18, 3) := by decide +kernel
theorem dX8_work_68 : decode cX8_work 68 = .ok (.iconst 4, 1) := by decide +kernel
theorem dX8_work_69 : decode cX8_work 69 = .ok (.iload_n 1, 1) := by decide +kernel
theorem dX8_work_70 : decode cX8_work 70 = .ok (.imul, 1) := by decide +kernel
theorem dX8_work_71 : decode cX8_work 71 = .ok (.iconst 3, 1) := by decide +kernel
theorem dX8_work_72 : decode cX8_work 72 = .ok (.iadd, 1) := by decide +kernel
theorem dX8_work_73 : decode cX8_work 73 = .ok (.baload, 1) := by decide +kernel
theorem dX8_work_74 : decode cX8_work 74 = .ok (.sipush 255, 3) := by decide +kernel
theorem dX8_work_77 : decode cX8_work 77 = .ok (.iand, 1) := by decide +kernel
theorem dX8_work_78 : decode cX8_work 78 = .ok (.ior, 1) := by decide +kernel
theorem dX8_work_79 : decode cX8_work 79 = .ok (.iastore, 1) := by decide +kernel
theorem dX8_work_80 : decode cX8_work 80 = .ok (.iinc 1 1, 3) := by decide +kernel
theorem dX8_work_83 : decode cX8_work 83 = .ok (.goto (-81), 3) := by decide +kernel
theorem dX8_work_86 : decode cX8_work 86 = .ok (.bipush 16, 2) := by decide +kernel
theorem dX8_work_88 : decode cX8_work 88 = .ok (.istore_n 1, 1) := by decide +kernel
theorem dX8_work_89 : decode cX8_work 89 = .ok (.iload_n 1, 1) := by decide +kernel
theorem dX8_work_90 : decode cX8_work 90 = .ok (.bipush 80, 2) := by decide +kernel
theorem dX8_work_92 : decode cX8_work 92 = .ok (.if_icmp .ge 57, 3) := by decide +kernel
theorem dX8_work_95 : decode cX8_work 95 = .ok (.aload_n 0, 1) := by decide +kernel
theorem dX8_work_96 : decode cX8_work 96 = .ok (.getfield 15, 3) := by decide +kernel
theorem dX8_work_99 : decode cX8_work 99 = .ok (.iload_n 1, 1) := by decide +kernel
theorem dX8_work_100 : decode cX8_work 100 = .ok (.aload_n 0, 1) := by decide +kernel
theorem dX8_work_101 : decode cX8_work 101 = .ok (.getfield 15, 3) := by decide +kernel
theorem dX8_work_104 : decode cX8_work 104 = .ok (.iload_n 1, 1) := by decide +kernel
theorem dX8_work_105 : decode cX8_work 105 = .ok (.iconst 3, 1) := by decide +kernel
theorem dX8_work_106 : decode cX8_work 106 = .ok (.isub, 1) := by decide +kernel
theorem dX8_work_107 : decode cX8_work 107 = .ok (.iaload, 1) := by decide +kernel
theorem dX8_work_108 : decode cX8_work 108 = .ok (.aload_n 0, 1) := by decide +kernel
theorem dX8_work_109 : decode cX8_work 109 = .ok (.getfield 15, 3) := by decide +kernel
theorem dX8_work_112 : decode cX8_work 112 = .ok (.iload_n 1, 1) := by decide +kernel
theorem dX8_work_113 : decode cX8_work 113 = .ok (.bipush 8, 2) := by decide +kernel
theorem dX8_work_115 : decode cX8_work 115 = .ok (.isub, 1) := by decide +kernel
theorem dX8_work_116 : decode cX8_work 116 = .ok (.iaload, 1) := by decide +kernel
theorem dX8_work_117 : decode cX8_work 117 = .ok (.ixor, 1) := by decide +kernel
theorem dX8_work_118 : decode cX8_work 118 = .ok (.aload_n 0, 1) := by decide +kernel
theorem dX8_work_119 : decode cX8_work 119 = .ok (.getfield 15, 3) := by decide +kernel
theorem dX8_work_122 : decode cX8_work 122 = .ok (.iload_n 1, 1) := by decide +kernel
theorem dX8_work_123 : decode cX8_work 123 = .ok (.bipush 14, 2) := by decide +kernel
theorem dX8_work_125 : decode cX8_work 125 = .ok (.isub, 1) := by decide +kernel
theorem dX8_work_126 : decode cX8_work 126 = .ok (.iaload, 1) := by decide +kernel
theorem dX8_work_127 : decode cX8_work 127 = .ok (.ixor, 1) := by decide +kernel
theorem dX8_work_128 : decode cX8_work 128 = .ok (.aload_n 0, 1) := by decide +kernel
theorem dX8_work_129 : decode cX8_work 129 = .ok (.getfield 15, 3) := by decide +kernel
theorem dX8_work_132 : decode cX8_work 132 = .ok (.iload_n 1, 1) := by decide +kernel
theorem dX8_work_133 : decode cX8_work 133 = .ok (.bipush 16, 2) := by decide +kernel
theorem dX8_work_135 : decode cX8_work 135 = .ok (.isub, 1) := by decide +kernel
theorem dX8_work_136 : decode cX8_work 136 = .ok (.iaload, 1) := by decide +kernel
theorem dX8_work_137 : decode cX8_work 137 = .ok (.ixor, 1) := by decide +kernel
theorem dX8_work_138 : decode cX8_work 138 = .ok (.iconst 1, 1) := by decide +kernel
theorem dX8_work_139 : decode cX8_work 139 = .ok (.invokestatic 26, 3) := by decide +kernel
theorem dX8_work_142 : decode cX8_work 142 = .ok (.iastore, 1) := by decide +kernel
theorem dX8_work_143 : decode cX8_work 143 = .ok (.iinc 1 1, 3) := by decide +kernel
theorem dX8_work_146 : decode cX8_work 146 = .ok (.goto (-57), 3) := by decide +kernel
theorem dX8_work_149 : decode cX8_work 149 = .ok (.aload_n 0, 1) := by decide +kernel
theorem dX8_work_150 : decode cX8_work 150 = .ok (.getfield 9, 3) := by decide +kernel
theorem dX8_work_153 : decode cX8_work 153 = .ok (.iconst 0, 1) := by decide +kernel
theorem dX8_work_154 : decode cX8_work 154 = .ok (.iaload, 1) := by decide +kernel
theorem dX8_work_155 : decode cX8_work 155 = .ok (.istore_n 1, 1) := by decide +kernel
theorem dX8_work_156 : decode cX8_work 156 = .ok (.aload_n 0, 1) := by decide +kernel
theorem dX8_work_157 : decode cX8_work 157 = .ok (.getfield 9, 3) := by decide +kernel
theorem dX8_work_160 : decode cX8_work 160 = .ok (.iconst 1, 1) := by decide +kernel
theorem dX8_work_161 : decode cX8_work 161 = .ok (.iaload, 1) := by decide +kernel
theorem dX8_work_162 : decode cX8_work 162 = .ok (.istore_n 2, 1) := by decide +kernel
theorem dX8_work_163 : decode cX8_work 163 = .ok (.aload_n 0, 1) := by decide +kernel
theorem dX8_work_164 : decode cX8_work 164 = .ok (.getfield 9, 3) := by decide +kernel
theorem dX8_work_167 : decode cX8_work 167 = .ok (.iconst 2, 1) := by decide +kernel
theorem dX8_work_168 : decode cX8_work 168 = .ok (.iaload, 1) := by decide +kernel
theorem dX8_work_169 : decode cX8_work 169 = .ok (.istore_n 3, 1) := by decide +kernel
theorem dX8_work_170 : decode cX8_work 170 = .ok (.aload_n 0, 1) := by decide +kernel
theorem dX8_work_171 : decode cX8_work 171 = .ok (.getfield 9, 3) := by decide +kernel
theorem dX8_work_174 : decode cX8_work 174 = .ok (.iconst 3, 1) := by decide +kernel
theorem dX8_work_175 : decode cX8_work 175 = .ok (.iaload, 1) := by decide +kernel
theorem dX8_work_176 : decode cX8_work 176 = .ok (.istore 4, 2) := by decide +kernel
theorem dX8_work_178 : decode cX8_work 178 = .ok (.aload_n 0, 1) := by decide +kernel
theorem dX8_work_179 : decode cX8_work 179 = .ok (.getfield 9, 3) := by decide +kernel
theorem dX8_work_182 : decode cX8_work 182 = .ok (.iconst 4, 1) := by decide +kernel
theorem dX8_work_183 : decode cX8_work 183 = .ok (.iaload, 1) := by decide +kernel
theorem dX8_work_184 : decode cX8_work 184 = .ok (.istore 5, 2) := by decide +kernel
theorem dX8_work_186 : decode cX8_work 186 = .ok (.iconst 0, 1) := by decide +kernel
theorem dX8_work_187 : decode cX8_work 187 = .ok (.istore 6, 2) := by decide +kernel
theorem dX8_work_189 : decode cX8_work 189 = .ok (.iload 6, 2) := by decide +kernel
theorem dX8_work_191 : decode cX8_work 191 = .ok (.bipush 80, 2) := by decide +kernel
theorem dX8_work_193 : decode cX8_work 193 = .ok (.if_icmp .ge 56, 3) := by decide +kernel
theorem dX8_work_196 : decode cX8_work 196 = .ok (.iload_n 1, 1) := by decide +kernel
theorem dX8_work_197 : decode cX8_work 197 = .ok (.iconst 5, 1) := by decide +kernel
theorem dX8_work_198 : decode cX8_work 198 = .ok (.invokestatic 26, 3) := by decide +kernel
theorem dX8_work_201 : decode cX8_work 201 = .ok (.iload 6, 2) := by decide +kernel
theorem dX8_work_203 : decode cX8_work 203 = .ok (.iload_n 2, 1) := by decide +kernel
theorem dX8_work_204 : decode cX8_work 204 = .ok (.iload_n 3, 1) := by decide +kernel
theorem dX8_work_205 : decode cX8_work 205 = .ok (.iload 4, 2) := by decide +kernel
theorem dX8_work_207 : decode cX8_work 207 = .ok (.invokestatic 32, 3) := by decide +kernel
theorem dX8_work_210 : decode cX8_work 210 = .ok (.iadd, 1) := by decide +kernel
theorem dX8_work_211 : decode cX8_work 211 = .ok (.iload 5, 2) := by decide +kernel
theorem dX8_work_213 : decode cX8_work 213 = .ok (.iadd, 1) := by decide +kernel
theorem dX8_work_214 : decode cX8_work 214 = .ok (.aload_n 0, 1) := by decide +kernel
theorem dX8_work_215 : decode cX8_work 215 = .ok (.getfield 15, 3) := by decide +kernel
theorem dX8_work_218 : decode cX8_work 218 = .ok (.iload 6, 2) := by decide +kernel
theorem dX8_work_220 : decode cX8_work 220 = .ok (.iaload, 1) := by decide +kernel
theorem dX8_work_221 : decode cX8_work 221 = .ok (.iadd, 1) := by decide +kernel
theorem dX8_work_222 : decode cX8_work 222 = .ok (.istore 7, 2) := by decide +kernel
theorem dX8_work_224 : decode cX8_work 224 = .ok (.iload 4, 2) := by decide +kernel
theorem dX8_work_226 : decode cX8_work 226 = .ok (.istore 5, 2) := by decide +kernel
theorem dX8_work_228 : decode cX8_work 228 = .ok (.iload_n 3, 1) := by decide +kernel
theorem dX8_work_229 : decode cX8_work 229 = .ok (.istore 4, 2) := by decide +kernel
theorem dX8_work_231 : decode cX8_work 231 = .ok (.iload_n 2, 1) := by decide +kernel
theorem dX8_work_232 : decode cX8_work 232 = .ok (.bipush 30, 2) := by decide +kernel
theorem dX8_work_234 : decode cX8_work 234 = .ok (.invokestatic 26, 3) := by decide +kernel
theorem dX8_work_237 : decode cX8_work 237 = .ok (.istore_n 3, 1) := by decide +kernel
theorem dX8_work_238 : decode cX8_work 238 = .ok (.iload_n 1, 1) := by decide +kernel
theorem dX8_work_239 : decode cX8_work 239 = .ok (.istore_n 2, 1) := by decide +kernel
theorem dX8_work_240 : decode cX8_work 240 = .ok (.iload 7, 2) := by decide +kernel
theorem dX8_work_242 : decode cX8_work 242 = .ok (.istore_n 1, 1) := by decide +kernel
theorem dX8_work_243 : decode cX8_work 243 = .ok (.iinc 6 1, 3) := by decide +kernel
theorem dX8_work_246 : decode cX8_work 246 = .ok (.goto (-57), 3) := by decide +kernel
theorem dX8_work_249 : decode cX8_work 249 = .ok (.aload_n 0, 1) := by decide +kernel
theorem dX8_work_250 : decode cX8_work 250 = .ok (.getfield 9, 3) := by decide +kernel
theorem dX8_work_253 : decode cX8_work 253 = .ok (.iconst 0, 1) := by decide +kernel
theorem dX8_work_254 : decode cX8_work 254 = .ok (.dup2, 1) := by decide +kernel
theorem dX8_work_255 : decode cX8_work 255 = .ok (.iaload, 1) := by decide +kernel
theorem dX8_work_256 : decode cX8_work 256 = .ok (.iload_n 1, 1) := by decide +kernel
theorem dX8_work_257 : decode cX8_work 257 = .ok (.iadd, 1) := by decide +kernel
theorem dX8_work_258 : decode cX8_work 258 = .ok (.iastore, 1) := by decide +kernel
theorem dX8_work_259 : decode cX8_work 259 = .ok (.aload_n 0, 1) := by decide +kernel
theorem dX8_work_260 : decode cX8_work 260 = .ok (.getfield 9, 3) := by decide +kernel
theorem dX8_work_263 : decode cX8_work 263 = .ok (.iconst 1, 1) := by decide +kernel
theorem dX8_work_264 : decode cX8_work 264 = .ok (.dup2, 1) := by decide +kernel
theorem dX8_work_265 : decode cX8_work 265 = .ok (.iaload, 1) := by decide +kernel
theorem dX8_work_266 : decode cX8_work 266 = .ok (.iload_n 2, 1) := by decide +kernel
theorem dX8_work_267 : decode cX8_work 267 = .ok (.iadd, 1) := by decide +kernel
theorem dX8_work_268 : decode cX8_work 268 = .ok (.iastore, 1) := by decide +kernel
theorem dX8_work_269 : decode cX8_work 269 = .ok (.aload_n 0, 1) := by decide +kernel
theorem dX8_work_270 : decode cX8_work 270 = .ok (.getfield 9, 3) := by decide +kernel
theorem dX8_work_273 : decode cX8_work 273 = .ok (.iconst 2, 1) := by decide +kernel
theorem dX8_work_274 : decode cX8_work 274 = .ok (.dup2, 1) := by decide +kernel
theorem dX8_work_275 : decode cX8_work 275 = .ok (.iaload, 1) := by decide +kernel
theorem dX8_work_276 : decode cX8_work 276 = .ok (.iload_n 3, 1) := by decide +kernel
theorem dX8_work_277 : decode cX8_work 277 = .ok (.iadd, 1) := by decide +kernel
theorem dX8_work_278 : decode cX8_work 278 = .ok (.iastore, 1) := by decide +kernel
theorem dX8_work_279 : decode cX8_work 279 = .ok (.aload_n 0, 1) := by decide +kernel
theorem dX8_work_280 : decode cX8_work 280 = .ok (.getfield 9, 3) := by decide +kernel
theorem dX8_work_283 : decode cX8_work 283 = .ok (.iconst 3, 1) := by decide +kernel
theorem dX8_work_284 : decode cX8_work 284 = .ok (.dup2, 1) := by decide +kernel
theorem dX8_work_285 : decode cX8_work 285 = .ok (.iaload, 1) := by decide +kernel
theorem dX8_work_286 : decode cX8_work 286 = .ok (.iload 4, 2) := by decide +kernel
theorem dX8_work_288 : decode cX8_work 288 = .ok (.iadd, 1) := by decide +kernel
theorem dX8_work_289 : decode cX8_work 289 = .ok (.iastore, 1) := by decide +kernel
theorem dX8_work_290 : decode cX8_work 290 = .ok (.aload_n 0, 1) := by decide +kernel
theorem dX8_work_291 : decode cX8_work 291 = .ok (.getfield 9, 3) := by decide +kernel
theorem dX8_work_294 : decode cX8_work 294 = .ok (.iconst 4, 1) := by decide +kernel
theorem dX8_work_295 : decode cX8_work 295 = .ok (.dup2, 1) := by decide +kernel
theorem dX8_work_296 : decode cX8_work 296 = .ok (.iaload, 1) := by decide +kernel
theorem dX8_work_297 : decode cX8_work 297 = .ok (.iload 5, 2) := by decide +kernel
theorem dX8_work_299 : decode cX8_work 299 = .ok (.iadd, 1) := by decide +kernel
theorem dX8_work_300 : decode cX8_work 300 = .ok (.iastore, 1) := by decide +kernel
theorem dX8_work_301 : decode cX8_work 301 = .ok (.return_, 1) := by decide +kernel
def j_X8_work_249 (x0 x1 x2 x3 x4 x5 : Int) (M : MM) : Option (MM) :=
  (gfr 8 0 x0 M).bind fun v1 =>
  (lai v1 0 M).bind fun v2 =>
  (sai v1 0 (v2 + x1) M).bind fun M1 =>
  (gfr 8 0 x0 M1).bind fun v3 =>
  (lai v3 1 M1).bind fun v4 =>
  (sai v3 1 (v4 + x2) M1).bind fun M2 =>
  (gfr 8 0 x0 M2).bind fun v5 =>
  (lai v5 2 M2).bind fun v6 =>
  (sai v5 2 (v6 + x3) M2).bind fun M3 =>
  (gfr 8 0 x0 M3).bind fun v7 =>
  (lai v7 3 M3).bind fun v8 =>
  (sai v7 3 (v8 + x4) M3).bind fun M4 =>
  (gfr 8 0 x0 M4).bind fun v9 =>
  (lai v9 4 M4).bind fun v10 =>
  (sai v9 4 (v10 + x5) M4).bind fun M5 =>
  some M5
def b_X8_work_189 (x0 x1 x2 x3 x4 x5 x6 : Int) (M : MM) : Option ((Int × Int × Int × Int × Int × Int) ⊕ (MM)) :=
  if w32 x6 < w32 80 then
    (f_J1_rotateLeft x1 5).bind fun v1 =>
    (f_X8_mixed x6 x2 x3 x4).bind fun v2 =>
    (gfr 8 1 x0 M).bind fun v3 =>
    (lai v3 x6 M).bind fun v4 =>
    (f_J1_rotateLeft x2 30).bind fun v5 =>
    cnt (((v1 + v2) + x5) + v4, x1, v5, x3, x4, x6 + 1)
  else
    xit (j_X8_work_249 x0 x1 x2 x3 x4 x5 M)
def l_X8_work_189 (x0 x1 x2 x3 x4 x5 x6 : Int) (M : MM) : Option (MM) := lpN (fun s : Int × Int × Int × Int × Int × Int => b_X8_work_189 x0 s.1 s.2.1 s.2.2.1 s.2.2.2.1 s.2.2.2.2.1 s.2.2.2.2.2 M) FU (x1, x2, x3, x4, x5, x6)
def j_X8_work_149 (x0 : Int) (M : MM) : Option (MM) :=
  (gfr 8 0 x0 M).bind fun v1 =>
  (lai v1 0 M).bind fun v2 =>
  (gfr 8 0 x0 M).bind fun v3 =>
  (lai v3 1 M).bind fun v4 =>
  (gfr 8 0 x0 M).bind fun v5 =>
  (lai v5 2 M).bind fun v6 =>
  (gfr 8 0 x0 M).bind fun v7 =>
  (lai v7 3 M).bind fun v8 =>
  (gfr 8 0 x0 M).bind fun v9 =>
  (lai v9 4 M).bind fun v10 =>
  l_X8_work_189 x0 v2 v4 v6 v8 v10 0 M
def b_X8_work_89 (x0 x1 : Int) (M : MM) : Option ((Int × MM) ⊕ (MM)) :=
  if w32 x1 < w32 80 then
    (gfr 8 1 x0 M).bind fun v1 =>
    (gfr 8 1 x0 M).bind fun v2 =>
    (lai v2 (x1 - 3) M).bind fun v3 =>
    (gfr 8 1 x0 M).bind fun v4 =>
    (lai v4 (x1 - 8) M).bind fun v5 =>
    (gfr 8 1 x0 M).bind fun v6 =>
    (lai v6 (x1 - 14) M).bind fun v7 =>
    (gfr 8 1 x0 M).bind fun v8 =>
    (lai v8 (x1 - 16) M).bind fun v9 =>
    (f_J1_rotateLeft (bxor (bxor (bxor v3 v5) v7) v9) 1).bind fun v10 =>
    (sai v1 x1 v10 M).bind fun M1 =>
    cnt (x1 + 1, M1)
  else
    xit (j_X8_work_149 x0 M)
def l_X8_work_89 (x0 x1 : Int) (M : MM) : Option (MM) := lpN (fun s : Int × MM => b_X8_work_89 x0 s.1 s.2) FU (x1, M)
def j_X8_work_86 (x0 : Int) (M : MM) : Option (MM) :=
  l_X8_work_89 x0 16 M
def b_X8_work_2 (x0 x1 : Int) (M : MM) : Option ((Int × MM) ⊕ (MM)) :=
  if w32 x1 < w32 16 then
    (gfr 8 1 x0 M).bind fun v1 =>
    (gfr 8 2 x0 M).bind fun v2 =>
    (lab v2 (4 * x1) M).bind fun v3 =>
    (gfr 8 2 x0 M).bind fun v4 =>
    (lab v4 ((4 * x1) + 1) M).bind fun v5 =>
    (gfr 8 2 x0 M).bind fun v6 =>
    (lab v6 ((4 * x1) + 2) M).bind fun v7 =>
    (gfr 8 2 x0 M).bind fun v8 =>
    (lab v8 ((4 * x1) + 3) M).bind fun v9 =>
    (sai v1 x1 (bor (bor (bor (bshl (band v3 255) 24) (bshl (band v5 255) 16)) (bshl (band v7 255) 8)) (band v9 255)) M).bind fun M1 =>
    cnt (x1 + 1, M1)
  else
    xit (j_X8_work_86 x0 M)
def l_X8_work_2 (x0 x1 : Int) (M : MM) : Option (MM) := lpN (fun s : Int × MM => b_X8_work_2 x0 s.1 s.2) FU (x1, M)
def f_X8_work (x0 : Int) (M : MM) : Option (MM) :=
  l_X8_work_2 x0 0 M
theorem s_X8_work_249 {g : GG} {d : Nat} (hD : 1 ≤ d) {x0 x1 x2 x3 x4 x5 : Int} {M : MM} {o : AV × MM} {P : (MM) → Prop} (r0 : ∀ r : MM, P r → o = ((9, 0), r)) {z : MM} (h : j_X8_work_249 x0 x1 x2 x3 x4 x5 M = some z) (hz : P z) : Sem g d YX8_work 249 [(1, x0), (0, x1), (0, x2), (0, x3), (0, x4), (0, x5), (9, 0), (9, 0)] [] M o := by
  delta j_X8_work_249 at h
  refine S_aload_n (i := 0) dX8_work_249 rfl rfl ?_
  refine P_gfr FLX8_9 rfl dX8_work_250 h (fun v1 h => ?_)
  refine S_iconst dX8_work_253 rfl ?_
  refine S_dup2 dX8_work_254 (Nat.le_of_ble_eq_true rfl) (Nat.le_of_ble_eq_true rfl) ?_
  refine P_lai dX8_work_255 h (fun v2 h => ?_)
  refine S_iload_n (i := 1) dX8_work_256 rfl rfl ?_
  refine S_iadd dX8_work_257 ?_
  refine P_sai dX8_work_258 h (fun M1 h => ?_)
  refine S_aload_n (i := 0) dX8_work_259 rfl rfl ?_
  refine P_gfr FLX8_9 rfl dX8_work_260 h (fun v3 h => ?_)
  refine S_iconst dX8_work_263 rfl ?_
  refine S_dup2 dX8_work_264 (Nat.le_of_ble_eq_true rfl) (Nat.le_of_ble_eq_true rfl) ?_
  refine P_lai dX8_work_265 h (fun v4 h => ?_)
  refine S_iload_n (i := 2) dX8_work_266 rfl rfl ?_
  refine S_iadd dX8_work_267 ?_
  refine P_sai dX8_work_268 h (fun M2 h => ?_)
  refine S_aload_n (i := 0) dX8_work_269 rfl rfl ?_
  refine P_gfr FLX8_9 rfl dX8_work_270 h (fun v5 h => ?_)
  refine S_iconst dX8_work_273 rfl ?_
  refine S_dup2 dX8_work_274 (Nat.le_of_ble_eq_true rfl) (Nat.le_of_ble_eq_true rfl) ?_
  refine P_lai dX8_work_275 h (fun v6 h => ?_)
  refine S_iload_n (i := 3) dX8_work_276 rfl rfl ?_
  refine S_iadd dX8_work_277 ?_
  refine P_sai dX8_work_278 h (fun M3 h => ?_)
  refine S_aload_n (i := 0) dX8_work_279 rfl rfl ?_
  refine P_gfr FLX8_9 rfl dX8_work_280 h (fun v7 h => ?_)
  refine S_iconst dX8_work_283 rfl ?_
  refine S_dup2 dX8_work_284 (Nat.le_of_ble_eq_true rfl) (Nat.le_of_ble_eq_true rfl) ?_
  refine P_lai dX8_work_285 h (fun v8 h => ?_)
  refine S_iload dX8_work_286 rfl ?_
  refine S_iadd dX8_work_288 ?_
  refine P_sai dX8_work_289 h (fun M4 h => ?_)
  refine S_aload_n (i := 0) dX8_work_290 rfl rfl ?_
  refine P_gfr FLX8_9 rfl dX8_work_291 h (fun v9 h => ?_)
  refine S_iconst dX8_work_294 rfl ?_
  refine S_dup2 dX8_work_295 (Nat.le_of_ble_eq_true rfl) (Nat.le_of_ble_eq_true rfl) ?_
  refine P_lai dX8_work_296 h (fun v10 h => ?_)
  refine S_iload dX8_work_297 rfl ?_
  refine S_iadd dX8_work_299 ?_
  refine P_sai dX8_work_300 h (fun M5 h => ?_)
  obtain rfl := r0 _ (some_P (P := fun r => P r) h hz)
  exact S_return dX8_work_301 rfl
theorem s_X8_work_189 {g : GG} {d : Nat} (hD : 1 ≤ d) {x0 x1 x2 x3 x4 x5 x6 : Int} {M : MM} {o : AV × MM} {P : ((Int × Int × Int × Int × Int × Int) ⊕ (MM)) → Prop} (c0 : ∀ s : Int × Int × Int × Int × Int × Int, P (.inl s) → Sem g d YX8_work 189 [(1, x0), (0, s.1), (0, s.2.1), (0, s.2.2.1), (0, s.2.2.2.1), (0, s.2.2.2.2.1), (0, s.2.2.2.2.2), (9, 0)] [] M o) (r0 : ∀ r : MM, P (.inr r) → o = ((9, 0), r)) {z : (Int × Int × Int × Int × Int × Int) ⊕ (MM)} (h : b_X8_work_189 x0 x1 x2 x3 x4 x5 x6 M = some z) (hz : P z) : Sem g d YX8_work 189 [(1, x0), (0, x1), (0, x2), (0, x3), (0, x4), (0, x5), (0, x6), (9, 0)] [] M o := by
  delta b_X8_work_189 at h
  refine S_iload dX8_work_189 rfl ?_
  refine S_bipush (z := 80) dX8_work_191 rfl ?_
  refine P_icmp_ge (tgt := 249) dX8_work_193 rfl h (fun h => ?_) (fun h => ?_)
  · refine S_weak (ls' := [(1, x0), (0, x1), (0, x2), (0, x3), (0, x4), (0, x5), (9, 0), (9, 0)]) ⟨Or.inr rfl, ⟨Or.inr rfl, ⟨Or.inr rfl, ⟨Or.inr rfl, ⟨Or.inr rfl, ⟨Or.inr rfl, ⟨Or.inl rfl, ⟨Or.inl rfl, trivial⟩⟩⟩⟩⟩⟩⟩⟩ ?_
    obtain ⟨z0, h, hz⟩ := xit_some' (P := fun r => P r) h hz
    exact s_X8_work_249 hD (P := fun r => P (.inr r)) r0 h hz
  · refine S_iload_n (i := 1) dX8_work_196 rfl rfl ?_
    refine S_iconst dX8_work_197 rfl ?_
    refine P_invSp 0 [(0, x1), (0, 5)] [] CSJ1_rotateLeft MLX8_26 dX8_work_198 rfl rfl rfl rfl rfl (by omega) h (fun r h => F_J1_rotateLeft (by omega) h) (fun v1 h => ?_)
    refine S_iload dX8_work_201 rfl ?_
    refine S_iload_n (i := 2) dX8_work_203 rfl rfl ?_
    refine S_iload_n (i := 3) dX8_work_204 rfl rfl ?_
    refine S_iload dX8_work_205 rfl ?_
    refine P_invSp 0 [(0, x6), (0, x2), (0, x3), (0, x4)] [(0, v1)] CSX8_mixed MLX8_32 dX8_work_207 rfl rfl rfl rfl rfl (by omega) h (fun r h => F_X8_mixed (by omega) h) (fun v2 h => ?_)
    refine S_iadd dX8_work_210 ?_
    refine S_iload dX8_work_211 rfl ?_
    refine S_iadd dX8_work_213 ?_
    refine S_aload_n (i := 0) dX8_work_214 rfl rfl ?_
    refine P_gfr FLX8_15 rfl dX8_work_215 h (fun v3 h => ?_)
    refine S_iload dX8_work_218 rfl ?_
    refine P_lai dX8_work_220 h (fun v4 h => ?_)
    refine S_iadd dX8_work_221 ?_
    refine S_istore dX8_work_222 (Nat.le_of_ble_eq_true rfl) rfl rfl ?_
    change Sem g d YX8_work 224 [(1, x0), (0, x1), (0, x2), (0, x3), (0, x4), (0, x5), (0, x6), (0, ((v1 + v2) + x5) + v4)] [] M o
    refine S_iload dX8_work_224 rfl ?_
    refine S_istore dX8_work_226 (Nat.le_of_ble_eq_true rfl) rfl rfl ?_
    change Sem g d YX8_work 228 [(1, x0), (0, x1), (0, x2), (0, x3), (0, x4), (0, x4), (0, x6), (0, ((v1 + v2) + x5) + v4)] [] M o
    refine S_iload_n (i := 3) dX8_work_228 rfl rfl ?_
    refine S_istore dX8_work_229 (Nat.le_of_ble_eq_true rfl) rfl rfl ?_
    change Sem g d YX8_work 231 [(1, x0), (0, x1), (0, x2), (0, x3), (0, x3), (0, x4), (0, x6), (0, ((v1 + v2) + x5) + v4)] [] M o
    refine S_iload_n (i := 2) dX8_work_231 rfl rfl ?_
    refine S_bipush (z := 30) dX8_work_232 rfl ?_
    refine P_invSp 0 [(0, x2), (0, 30)] [] CSJ1_rotateLeft MLX8_26 dX8_work_234 rfl rfl rfl rfl rfl (by omega) h (fun r h => F_J1_rotateLeft (by omega) h) (fun v5 h => ?_)
    refine S_istore_n (i := 3) dX8_work_237 rfl (Nat.le_of_ble_eq_true rfl) rfl rfl ?_
    change Sem g d YX8_work 238 [(1, x0), (0, x1), (0, x2), (0, v5), (0, x3), (0, x4), (0, x6), (0, ((v1 + v2) + x5) + v4)] [] M o
    refine S_iload_n (i := 1) dX8_work_238 rfl rfl ?_
    refine S_istore_n (i := 2) dX8_work_239 rfl (Nat.le_of_ble_eq_true rfl) rfl rfl ?_
    change Sem g d YX8_work 240 [(1, x0), (0, x1), (0, x1), (0, v5), (0, x3), (0, x4), (0, x6), (0, ((v1 + v2) + x5) + v4)] [] M o
    refine S_iload dX8_work_240 rfl ?_
    refine S_istore_n (i := 1) dX8_work_242 rfl (Nat.le_of_ble_eq_true rfl) rfl rfl ?_
    change Sem g d YX8_work 243 [(1, x0), (0, ((v1 + v2) + x5) + v4), (0, x1), (0, v5), (0, x3), (0, x4), (0, x6), (0, ((v1 + v2) + x5) + v4)] [] M o
    refine S_iinc dX8_work_243 rfl rfl rfl ?_
    change Sem g d YX8_work 246 [(1, x0), (0, ((v1 + v2) + x5) + v4), (0, x1), (0, v5), (0, x3), (0, x4), (0, x6 + 1), (0, ((v1 + v2) + x5) + v4)] [] M o
    refine S_goto (tgt := 189) dX8_work_246 rfl ?_
    refine S_weak (ls' := [(1, x0), (0, ((v1 + v2) + x5) + v4), (0, x1), (0, v5), (0, x3), (0, x4), (0, x6 + 1), (9, 0)]) ⟨Or.inr rfl, ⟨Or.inr rfl, ⟨Or.inr rfl, ⟨Or.inr rfl, ⟨Or.inr rfl, ⟨Or.inr rfl, ⟨Or.inr rfl, ⟨Or.inl rfl, trivial⟩⟩⟩⟩⟩⟩⟩⟩ ?_
    exact c0 (((v1 + v2) + x5) + v4, x1, v5, x3, x4, x6 + 1) (some_P (P := fun r => P r) h hz)
theorem sl_X8_work_189 {g : GG} {d : Nat} (hD : 1 ≤ d) {x0 x1 x2 x3 x4 x5 x6 : Int} {M : MM} {o : AV × MM} {P : (MM) → Prop} (r0 : ∀ r : MM, P r → o = ((9, 0), r)) {z : MM} (h : l_X8_work_189 x0 x1 x2 x3 x4 x5 x6 M = some z) (hz : P z) : Sem g d YX8_work 189 [(1, x0), (0, x1), (0, x2), (0, x3), (0, x4), (0, x5), (0, x6), (9, 0)] [] M o := by
  refine lp_sound (S := fun s : Int × Int × Int × Int × Int × Int => Sem g d YX8_work 189 [(1, x0), (0, s.1), (0, s.2.1), (0, s.2.2.1), (0, s.2.2.2.1), (0, s.2.2.2.2.1), (0, s.2.2.2.2.2), (9, 0)] [] M o) (P := P) ?_ FU (x1, x2, x3, x4, x5, x6) z h hz
  intro s x hx hP
  exact s_X8_work_189 hD (P := Sum.elim (fun s : Int × Int × Int × Int × Int × Int => Sem g d YX8_work 189 [(1, x0), (0, s.1), (0, s.2.1), (0, s.2.2.1), (0, s.2.2.2.1), (0, s.2.2.2.2.1), (0, s.2.2.2.2.2), (9, 0)] [] M o) P) (fun s h => h) (fun s h => r0 s h) hx hP
theorem s_X8_work_149 {g : GG} {d : Nat} (hD : 1 ≤ d) {x0 : Int} {M : MM} {o : AV × MM} {P : (MM) → Prop} (r0 : ∀ r : MM, P r → o = ((9, 0), r)) {z : MM} (h : j_X8_work_149 x0 M = some z) (hz : P z) : Sem g d YX8_work 149 [(1, x0), (9, 0), (9, 0), (9, 0), (9, 0), (9, 0), (9, 0), (9, 0)] [] M o := by
  delta j_X8_work_149 at h
  refine S_aload_n (i := 0) dX8_work_149 rfl rfl ?_
  refine P_gfr FLX8_9 rfl dX8_work_150 h (fun v1 h => ?_)
  refine S_iconst dX8_work_153 rfl ?_
  refine P_lai dX8_work_154 h (fun v2 h => ?_)
  refine S_istore_n (i := 1) dX8_work_155 rfl (Nat.le_of_ble_eq_true rfl) rfl rfl ?_
  change Sem g d YX8_work 156 [(1, x0), (0, v2), (9, 0), (9, 0), (9, 0), (9, 0), (9, 0), (9, 0)] [] M o
  refine S_aload_n (i := 0) dX8_work_156 rfl rfl ?_
  refine P_gfr FLX8_9 rfl dX8_work_157 h (fun v3 h => ?_)
  refine S_iconst dX8_work_160 rfl ?_
  refine P_lai dX8_work_161 h (fun v4 h => ?_)
  refine S_istore_n (i := 2) dX8_work_162 rfl (Nat.le_of_ble_eq_true rfl) rfl rfl ?_
  change Sem g d YX8_work 163 [(1, x0), (0, v2), (0, v4), (9, 0), (9, 0), (9, 0), (9, 0), (9, 0)] [] M o
  refine S_aload_n (i := 0) dX8_work_163 rfl rfl ?_
  refine P_gfr FLX8_9 rfl dX8_work_164 h (fun v5 h => ?_)
  refine S_iconst dX8_work_167 rfl ?_
  refine P_lai dX8_work_168 h (fun v6 h => ?_)
  refine S_istore_n (i := 3) dX8_work_169 rfl (Nat.le_of_ble_eq_true rfl) rfl rfl ?_
  change Sem g d YX8_work 170 [(1, x0), (0, v2), (0, v4), (0, v6), (9, 0), (9, 0), (9, 0), (9, 0)] [] M o
  refine S_aload_n (i := 0) dX8_work_170 rfl rfl ?_
  refine P_gfr FLX8_9 rfl dX8_work_171 h (fun v7 h => ?_)
  refine S_iconst dX8_work_174 rfl ?_
  refine P_lai dX8_work_175 h (fun v8 h => ?_)
  refine S_istore dX8_work_176 (Nat.le_of_ble_eq_true rfl) rfl rfl ?_
  change Sem g d YX8_work 178 [(1, x0), (0, v2), (0, v4), (0, v6), (0, v8), (9, 0), (9, 0), (9, 0)] [] M o
  refine S_aload_n (i := 0) dX8_work_178 rfl rfl ?_
  refine P_gfr FLX8_9 rfl dX8_work_179 h (fun v9 h => ?_)
  refine S_iconst dX8_work_182 rfl ?_
  refine P_lai dX8_work_183 h (fun v10 h => ?_)
  refine S_istore dX8_work_184 (Nat.le_of_ble_eq_true rfl) rfl rfl ?_
  change Sem g d YX8_work 186 [(1, x0), (0, v2), (0, v4), (0, v6), (0, v8), (0, v10), (9, 0), (9, 0)] [] M o
  refine S_iconst dX8_work_186 rfl ?_
  refine S_istore dX8_work_187 (Nat.le_of_ble_eq_true rfl) rfl rfl ?_
  change Sem g d YX8_work 189 [(1, x0), (0, v2), (0, v4), (0, v6), (0, v8), (0, v10), (0, 0), (9, 0)] [] M o
  exact sl_X8_work_189 hD r0 h hz
theorem s_X8_work_89 {g : GG} {d : Nat} (hD : 1 ≤ d) {x0 x1 : Int} {M : MM} {o : AV × MM} {P : ((Int × MM) ⊕ (MM)) → Prop} (c0 : ∀ s : Int × MM, P (.inl s) → Sem g d YX8_work 89 [(1, x0), (0, s.1), (9, 0), (9, 0), (9, 0), (9, 0), (9, 0), (9, 0)] [] s.2 o) (r0 : ∀ r : MM, P (.inr r) → o = ((9, 0), r)) {z : (Int × MM) ⊕ (MM)} (h : b_X8_work_89 x0 x1 M = some z) (hz : P z) : Sem g d YX8_work 89 [(1, x0), (0, x1), (9, 0), (9, 0), (9, 0), (9, 0), (9, 0), (9, 0)] [] M o := by
  delta b_X8_work_89 at h
  refine S_iload_n (i := 1) dX8_work_89 rfl rfl ?_
  refine S_bipush (z := 80) dX8_work_90 rfl ?_
  refine P_icmp_ge (tgt := 149) dX8_work_92 rfl h (fun h => ?_) (fun h => ?_)
  · refine S_weak (ls' := [(1, x0), (9, 0), (9, 0), (9, 0), (9, 0), (9, 0), (9, 0), (9, 0)]) ⟨Or.inr rfl, ⟨Or.inl rfl, ⟨Or.inl rfl, ⟨Or.inl rfl, ⟨Or.inl rfl, ⟨Or.inl rfl, ⟨Or.inl rfl, ⟨Or.inl rfl, trivial⟩⟩⟩⟩⟩⟩⟩⟩ ?_
    obtain ⟨z0, h, hz⟩ := xit_some' (P := fun r => P r) h hz
    exact s_X8_work_149 hD (P := fun r => P (.inr r)) r0 h hz
  · refine S_aload_n (i := 0) dX8_work_95 rfl rfl ?_
    refine P_gfr FLX8_15 rfl dX8_work_96 h (fun v1 h => ?_)
    refine S_iload_n (i := 1) dX8_work_99 rfl rfl ?_
    refine S_aload_n (i := 0) dX8_work_100 rfl rfl ?_
    refine P_gfr FLX8_15 rfl dX8_work_101 h (fun v2 h => ?_)
    refine S_iload_n (i := 1) dX8_work_104 rfl rfl ?_
    refine S_iconst dX8_work_105 rfl ?_
    refine S_isub dX8_work_106 ?_
    refine P_lai dX8_work_107 h (fun v3 h => ?_)
    refine S_aload_n (i := 0) dX8_work_108 rfl rfl ?_
    refine P_gfr FLX8_15 rfl dX8_work_109 h (fun v4 h => ?_)
    refine S_iload_n (i := 1) dX8_work_112 rfl rfl ?_
    refine S_bipush (z := 8) dX8_work_113 rfl ?_
    refine S_isub dX8_work_115 ?_
    refine P_lai dX8_work_116 h (fun v5 h => ?_)
    refine S_ixor dX8_work_117 ?_
    refine S_aload_n (i := 0) dX8_work_118 rfl rfl ?_
    refine P_gfr FLX8_15 rfl dX8_work_119 h (fun v6 h => ?_)
    refine S_iload_n (i := 1) dX8_work_122 rfl rfl ?_
    refine S_bipush (z := 14) dX8_work_123 rfl ?_
    refine S_isub dX8_work_125 ?_
    refine P_lai dX8_work_126 h (fun v7 h => ?_)
    refine S_ixor dX8_work_127 ?_
    refine S_aload_n (i := 0) dX8_work_128 rfl rfl ?_
    refine P_gfr FLX8_15 rfl dX8_work_129 h (fun v8 h => ?_)
    refine S_iload_n (i := 1) dX8_work_132 rfl rfl ?_
    refine S_bipush (z := 16) dX8_work_133 rfl ?_
    refine S_isub dX8_work_135 ?_
    refine P_lai dX8_work_136 h (fun v9 h => ?_)
    refine S_ixor dX8_work_137 ?_
    refine S_iconst dX8_work_138 rfl ?_
    refine P_invSp 0 [(0, bxor (bxor (bxor v3 v5) v7) v9), (0, 1)] [(0, x1), (1, v1)] CSJ1_rotateLeft MLX8_26 dX8_work_139 rfl rfl rfl rfl rfl (by omega) h (fun r h => F_J1_rotateLeft (by omega) h) (fun v10 h => ?_)
    refine P_sai dX8_work_142 h (fun M1 h => ?_)
    refine S_iinc dX8_work_143 rfl rfl rfl ?_
    change Sem g d YX8_work 146 [(1, x0), (0, x1 + 1), (9, 0), (9, 0), (9, 0), (9, 0), (9, 0), (9, 0)] [] M1 o
    refine S_goto (tgt := 89) dX8_work_146 rfl ?_
    exact c0 (x1 + 1, M1) (some_P (P := fun r => P r) h hz)
theorem sl_X8_work_89 {g : GG} {d : Nat} (hD : 1 ≤ d) {x0 x1 : Int} {M : MM} {o : AV × MM} {P : (MM) → Prop} (r0 : ∀ r : MM, P r → o = ((9, 0), r)) {z : MM} (h : l_X8_work_89 x0 x1 M = some z) (hz : P z) : Sem g d YX8_work 89 [(1, x0), (0, x1), (9, 0), (9, 0), (9, 0), (9, 0), (9, 0), (9, 0)] [] M o := by
  refine lp_sound (S := fun s : Int × MM => Sem g d YX8_work 89 [(1, x0), (0, s.1), (9, 0), (9, 0), (9, 0), (9, 0), (9, 0), (9, 0)] [] s.2 o) (P := P) ?_ FU (x1, M) z h hz
  intro s x hx hP
  exact s_X8_work_89 hD (P := Sum.elim (fun s : Int × MM => Sem g d YX8_work 89 [(1, x0), (0, s.1), (9, 0), (9, 0), (9, 0), (9, 0), (9, 0), (9, 0)] [] s.2 o) P) (fun s h => h) (fun s h => r0 s h) hx hP
theorem s_X8_work_86 {g : GG} {d : Nat} (hD : 1 ≤ d) {x0 : Int} {M : MM} {o : AV × MM} {P : (MM) → Prop} (r0 : ∀ r : MM, P r → o = ((9, 0), r)) {z : MM} (h : j_X8_work_86 x0 M = some z) (hz : P z) : Sem g d YX8_work 86 [(1, x0), (9, 0), (9, 0), (9, 0), (9, 0), (9, 0), (9, 0), (9, 0)] [] M o := by
  delta j_X8_work_86 at h
  refine S_bipush (z := 16) dX8_work_86 rfl ?_
  refine S_istore_n (i := 1) dX8_work_88 rfl (Nat.le_of_ble_eq_true rfl) rfl rfl ?_
  change Sem g d YX8_work 89 [(1, x0), (0, 16), (9, 0), (9, 0), (9, 0), (9, 0), (9, 0), (9, 0)] [] M o
  exact sl_X8_work_89 hD r0 h hz
theorem s_X8_work_2 {g : GG} {d : Nat} (hD : 1 ≤ d) {x0 x1 : Int} {M : MM} {o : AV × MM} {P : ((Int × MM) ⊕ (MM)) → Prop} (c0 : ∀ s : Int × MM, P (.inl s) → Sem g d YX8_work 2 [(1, x0), (0, s.1), (9, 0), (9, 0), (9, 0), (9, 0), (9, 0), (9, 0)] [] s.2 o) (r0 : ∀ r : MM, P (.inr r) → o = ((9, 0), r)) {z : (Int × MM) ⊕ (MM)} (h : b_X8_work_2 x0 x1 M = some z) (hz : P z) : Sem g d YX8_work 2 [(1, x0), (0, x1), (9, 0), (9, 0), (9, 0), (9, 0), (9, 0), (9, 0)] [] M o := by
  delta b_X8_work_2 at h
  refine S_iload_n (i := 1) dX8_work_2 rfl rfl ?_
  refine S_bipush (z := 16) dX8_work_3 rfl ?_
  refine P_icmp_ge (tgt := 86) dX8_work_5 rfl h (fun h => ?_) (fun h => ?_)
  · refine S_weak (ls' := [(1, x0), (9, 0), (9, 0), (9, 0), (9, 0), (9, 0), (9, 0), (9, 0)]) ⟨Or.inr rfl, ⟨Or.inl rfl, ⟨Or.inl rfl, ⟨Or.inl rfl, ⟨Or.inl rfl, ⟨Or.inl rfl, ⟨Or.inl rfl, ⟨Or.inl rfl, trivial⟩⟩⟩⟩⟩⟩⟩⟩ ?_
    obtain ⟨z0, h, hz⟩ := xit_some' (P := fun r => P r) h hz
    exact s_X8_work_86 hD (P := fun r => P (.inr r)) r0 h hz
  · refine S_aload_n (i := 0) dX8_work_8 rfl rfl ?_
    refine P_gfr FLX8_15 rfl dX8_work_9 h (fun v1 h => ?_)
    refine S_iload_n (i := 1) dX8_work_12 rfl rfl ?_
    refine S_aload_n (i := 0) dX8_work_13 rfl rfl ?_
    refine P_gfr FLX8_18 rfl dX8_work_14 h (fun v2 h => ?_)
    refine S_iconst dX8_work_17 rfl ?_
    refine S_iload_n (i := 1) dX8_work_18 rfl rfl ?_
    refine S_imul dX8_work_19 ?_
    refine P_lab dX8_work_20 h (fun v3 h => ?_)
    refine S_sipush (z := 255) dX8_work_21 rfl ?_
    refine S_iand dX8_work_24 ?_
    refine S_bipush (z := 24) dX8_work_25 rfl ?_
    refine S_ishl dX8_work_27 ?_
    refine S_aload_n (i := 0) dX8_work_28 rfl rfl ?_
    refine P_gfr FLX8_18 rfl dX8_work_29 h (fun v4 h => ?_)
    refine S_iconst dX8_work_32 rfl ?_
    refine S_iload_n (i := 1) dX8_work_33 rfl rfl ?_
    refine S_imul dX8_work_34 ?_
    refine S_iconst dX8_work_35 rfl ?_
    refine S_iadd dX8_work_36 ?_
    refine P_lab dX8_work_37 h (fun v5 h => ?_)
    refine S_sipush (z := 255) dX8_work_38 rfl ?_
    refine S_iand dX8_work_41 ?_
    refine S_bipush (z := 16) dX8_work_42 rfl ?_
    refine S_ishl dX8_work_44 ?_
    refine S_ior dX8_work_45 ?_
    refine S_aload_n (i := 0) dX8_work_46 rfl rfl ?_
    refine P_gfr FLX8_18 rfl dX8_work_47 h (fun v6 h => ?_)
    refine S_iconst dX8_work_50 rfl ?_
    refine S_iload_n (i := 1) dX8_work_51 rfl rfl ?_
    refine S_imul dX8_work_52 ?_
    refine S_iconst dX8_work_53 rfl ?_
    refine S_iadd dX8_work_54 ?_
    refine P_lab dX8_work_55 h (fun v7 h => ?_)
    refine S_sipush (z := 255) dX8_work_56 rfl ?_
    refine S_iand dX8_work_59 ?_
    refine S_bipush (z := 8) dX8_work_60 rfl ?_
    refine S_ishl dX8_work_62 ?_
    refine S_ior dX8_work_63 ?_
    refine S_aload_n (i := 0) dX8_work_64 rfl rfl ?_
    refine P_gfr FLX8_18 rfl dX8_work_65 h (fun v8 h => ?_)
    refine S_iconst dX8_work_68 rfl ?_
    refine S_iload_n (i := 1) dX8_work_69 rfl rfl ?_
    refine S_imul dX8_work_70 ?_
    refine S_iconst dX8_work_71 rfl ?_
    refine S_iadd dX8_work_72 ?_
    refine P_lab dX8_work_73 h (fun v9 h => ?_)
    refine S_sipush (z := 255) dX8_work_74 rfl ?_
    refine S_iand dX8_work_77 ?_
    refine S_ior dX8_work_78 ?_
    refine P_sai dX8_work_79 h (fun M1 h => ?_)
    refine S_iinc dX8_work_80 rfl rfl rfl ?_
    change Sem g d YX8_work 83 [(1, x0), (0, x1 + 1), (9, 0), (9, 0), (9, 0), (9, 0), (9, 0), (9, 0)] [] M1 o
    refine S_goto (tgt := 2) dX8_work_83 rfl ?_
    exact c0 (x1 + 1, M1) (some_P (P := fun r => P r) h hz)
theorem sl_X8_work_2 {g : GG} {d : Nat} (hD : 1 ≤ d) {x0 x1 : Int} {M : MM} {o : AV × MM} {P : (MM) → Prop} (r0 : ∀ r : MM, P r → o = ((9, 0), r)) {z : MM} (h : l_X8_work_2 x0 x1 M = some z) (hz : P z) : Sem g d YX8_work 2 [(1, x0), (0, x1), (9, 0), (9, 0), (9, 0), (9, 0), (9, 0), (9, 0)] [] M o := by
  refine lp_sound (S := fun s : Int × MM => Sem g d YX8_work 2 [(1, x0), (0, s.1), (9, 0), (9, 0), (9, 0), (9, 0), (9, 0), (9, 0)] [] s.2 o) (P := P) ?_ FU (x1, M) z h hz
  intro s x hx hP
  exact s_X8_work_2 hD (P := Sum.elim (fun s : Int × MM => Sem g d YX8_work 2 [(1, x0), (0, s.1), (9, 0), (9, 0), (9, 0), (9, 0), (9, 0), (9, 0)] [] s.2 o) P) (fun s h => h) (fun s h => r0 s h) hx hP
theorem s_X8_work_0 {g : GG} {d : Nat} (hD : 1 ≤ d) {x0 : Int} {M : MM} {o : AV × MM} {P : (MM) → Prop} (r0 : ∀ r : MM, P r → o = ((9, 0), r)) {z : MM} (h : f_X8_work x0 M = some z) (hz : P z) : Sem g d YX8_work 0 [(1, x0), (9, 0), (9, 0), (9, 0), (9, 0), (9, 0), (9, 0), (9, 0)] [] M o := by
  delta f_X8_work at h
  refine S_iconst dX8_work_0 rfl ?_
  refine S_istore_n (i := 1) dX8_work_1 rfl (Nat.le_of_ble_eq_true rfl) rfl rfl ?_
  change Sem g d YX8_work 2 [(1, x0), (0, 0), (9, 0), (9, 0), (9, 0), (9, 0), (9, 0), (9, 0)] [] M o
  exact sl_X8_work_2 hD r0 h hz
theorem F_X8_work {g : GG} {d : Nat} (hD : 1 ≤ d) {x0 : Int} {M : MM} {r : MM} (h : f_X8_work x0 M = some r) : Sem g d YX8_work 0 (ini YX8_work [(1, x0)]) [] M ((9, 0), r) := by
  change Sem g d YX8_work 0 [(1, x0), (9, 0), (9, 0), (9, 0), (9, 0), (9, 0), (9, 0), (9, 0)] [] M ((9, 0), r)
  exact s_X8_work_0 hD (P := fun x => x = r) (fun q e => by rw [e]) h rfl
/-! PeerSearch$Sha.of([BILPeerSearch$Key;)V -/
theorem dX8_of_0 : decode cX8_of 0 = .ok (.aload_n 0, 1) := by decide +kernel
theorem dX8_of_1 : decode cX8_of 1 = .ok (.getfield 9, 3) := by decide +kernel
theorem dX8_of_4 : decode cX8_of 4 = .ok (.iconst 0, 1) := by decide +kernel
theorem dX8_of_5 : decode cX8_of 5 = .ok (.ldc 36, 2) := by decide +kernel
theorem dX8_of_7 : decode cX8_of 7 = .ok (.iastore, 1) := by decide +kernel
theorem dX8_of_8 : decode cX8_of 8 = .ok (.aload_n 0, 1) := by decide +kernel
theorem dX8_of_9 : decode cX8_of 9 = .ok (.getfield 9, 3) := by decide +kernel
theorem dX8_of_12 : decode cX8_of 12 = .ok (.iconst 1, 1) := by decide +kernel
theorem dX8_of_13 : decode cX8_of 13 = .ok (.ldc 37, 2) := by decide +kernel
theorem dX8_of_15 : decode cX8_of 15 = .ok (.iastore, 1) := by decide +kernel
theorem dX8_of_16 : decode cX8_of 16 = .ok (.aload_n 0, 1) := by decide +kernel
theorem dX8_of_17 : decode cX8_of 17 = .ok (.getfield 9, 3) := by decide +kernel
theorem dX8_of_20 : decode cX8_of 20 = .ok (.iconst 2, 1) := by decide +kernel
theorem dX8_of_21 : decode cX8_of 21 = .ok (.ldc 38, 2) := by decide +kernel
theorem dX8_of_23 : decode cX8_of 23 = .ok (.iastore, 1) := by decide +kernel
theorem dX8_of_24 : decode cX8_of 24 = .ok (.aload_n 0, 1) := by decide +kernel
theorem dX8_of_25 : decode cX8_of 25 = .ok (.getfield 9, 3) := by decide +kernel
theorem dX8_of_28 : decode cX8_of 28 = .ok (.iconst 3, 1) := by decide +kernel
theorem dX8_of_29 : decode cX8_of 29 = .ok (.ldc 39, 2) := by decide +kernel
theorem dX8_of_31 : decode cX8_of 31 = .ok (.iastore, 1) := by decide +kernel
theorem dX8_of_32 : decode cX8_of 32 = .ok (.aload_n 0, 1) := by decide +kernel
theorem dX8_of_33 : decode cX8_of 33 = .ok (.getfield 9, 3) := by decide +kernel
theorem dX8_of_36 : decode cX8_of 36 = .ok (.iconst 4, 1) := by decide +kernel
theorem dX8_of_37 : decode cX8_of 37 = .ok (.ldc 40, 2) := by decide +kernel
theorem dX8_of_39 : decode cX8_of 39 = .ok (.iastore, 1) := by decide +kernel
theorem dX8_of_40 : decode cX8_of 40 = .ok (.iload_n 2, 1) := by decide +kernel
theorem dX8_of_41 : decode cX8_of 41 = .ok (.bipush 8, 2) := by decide +kernel
theorem dX8_of_43 : decode cX8_of 43 = .ok (.iadd, 1) := by decide +kernel
theorem dX8_of_44 : decode cX8_of 44 = .ok (.bipush 64, 2) := by decide +kernel
theorem dX8_of_46 : decode cX8_of 46 = .ok (.idiv, 1) := by decide +kernel
theorem dX8_of_47 : decode cX8_of 47 = .ok (.iconst 1, 1) := by decide +kernel
theorem dX8_of_48 : decode cX8_of 48 = .ok (.iadd, 1) := by decide +kernel
theorem dX8_of_49 : decode cX8_of 49 = .ok (.istore 4, 2) := by decide +kernel
theorem dX8_of_51 : decode cX8_of 51 = .ok (.iconst 0, 1) := by decide +kernel
theorem dX8_of_52 : decode cX8_of 52 = .ok (.istore 5, 2) := by decide +kernel
theorem dX8_of_54 : decode cX8_of 54 = .ok (.iload 5, 2) := by decide +kernel
theorem dX8_of_56 : decode cX8_of 56 = .ok (.iload 4, 2) := by decide +kernel
theorem dX8_of_58 : decode cX8_of 58 = .ok (.if_icmp .ge 103, 3) := by decide +kernel
theorem dX8_of_61 : decode cX8_of 61 = .ok (.iconst 0, 1) := by decide +kernel
theorem dX8_of_62 : decode cX8_of 62 = .ok (.istore 6, 2) := by decide +kernel
theorem dX8_of_64 : decode cX8_of 64 = .ok (.iload 6, 2) := by decide +kernel
theorem dX8_of_66 : decode cX8_of 66 = .ok (.bipush 64, 2) := by decide +kernel
theorem dX8_of_68 : decode cX8_of 68 = .ok (.if_icmp .ge 83, 3) := by decide +kernel
theorem dX8_of_71 : decode cX8_of 71 = .ok (.bipush 64, 2) := by decide +kernel
theorem dX8_of_73 : decode cX8_of 73 = .ok (.iload 5, 2) := by decide +kernel
theorem dX8_of_75 : decode cX8_of 75 = .ok (.imul, 1) := by decide +kernel
theorem dX8_of_76 : decode cX8_of 76 = .ok (.iload 6, 2) := by decide +kernel
theorem dX8_of_78 : decode cX8_of 78 = .ok (.iadd, 1) := by decide +kernel
theorem dX8_of_79 : decode cX8_of 79 = .ok (.istore 7, 2) := by decide +kernel
theorem dX8_of_81 : decode cX8_of 81 = .ok (.bipush 64, 2) := by decide +kernel
theorem dX8_of_83 : decode cX8_of 83 = .ok (.iload 4, 2) := by decide +kernel
theorem dX8_of_85 : decode cX8_of 85 = .ok (.imul, 1) := by decide +kernel
theorem dX8_of_86 : decode cX8_of 86 = .ok (.iconst 1, 1) := by decide +kernel
theorem dX8_of_87 : decode cX8_of 87 = .ok (.isub, 1) := by decide +kernel
theorem dX8_of_88 : decode cX8_of 88 = .ok (.iload 7, 2) := by decide +kernel
theorem dX8_of_90 : decode cX8_of 90 = .ok (.isub, 1) := by decide +kernel
theorem dX8_of_91 : decode cX8_of 91 = .ok (.istore 8, 2) := by decide +kernel
theorem dX8_of_93 : decode cX8_of 93 = .ok (.aload_n 0, 1) := by decide +kernel
theorem dX8_of_94 : decode cX8_of 94 = .ok (.getfield 18, 3) := by decide +kernel
theorem dX8_of_97 : decode cX8_of 97 = .ok (.iload 6, 2) := by decide +kernel
theorem dX8_of_99 : decode cX8_of 99 = .ok (.iload 7, 2) := by decide +kernel
theorem dX8_of_101 : decode cX8_of 101 = .ok (.iload_n 2, 1) := by decide +kernel
theorem dX8_of_102 : decode cX8_of 102 = .ok (.if_icmp .ge 10, 3) := by decide +kernel
theorem dX8_of_105 : decode cX8_of 105 = .ok (.aload_n 1, 1) := by decide +kernel
theorem dX8_of_106 : decode cX8_of 106 = .ok (.iload 7, 2) := by decide +kernel
theorem dX8_of_108 : decode cX8_of 108 = .ok (.baload, 1) := by decide +kernel
theorem dX8_of_109 : decode cX8_of 109 = .ok (.goto 35, 3) := by decide +kernel
theorem dX8_of_112 : decode cX8_of 112 = .ok (.iload 7, 2) := by decide +kernel
theorem dX8_of_114 : decode cX8_of 114 = .ok (.iload_n 2, 1) := by decide +kernel
theorem dX8_of_115 : decode cX8_of 115 = .ok (.if_icmp .ne 8, 3) := by decide +kernel
theorem dX8_of_118 : decode cX8_of 118 = .ok (.bipush (-128), 2) := by decide +kernel
theorem dX8_of_120 : decode cX8_of 120 = .ok (.goto 24, 3) := by decide +kernel
theorem dX8_of_123 : decode cX8_of 123 = .ok (.iload 8, 2) := by decide +kernel
theorem dX8_of_125 : decode cX8_of 125 = .ok (.iconst 4, 1) := by decide +kernel
theorem dX8_of_126 : decode cX8_of 126 = .ok (.if_icmp .ge 17, 3) := by decide +kernel
theorem dX8_of_129 : decode cX8_of 129 = .ok (.bipush 8, 2) := by decide +kernel
theorem dX8_of_131 : decode cX8_of 131 = .ok (.iload_n 2, 1) := by decide +kernel
theorem dX8_of_132 : decode cX8_of 132 = .ok (.imul, 1) := by decide +kernel
theorem dX8_of_133 : decode cX8_of 133 = .ok (.bipush 8, 2) := by decide +kernel
theorem dX8_of_135 : decode cX8_of 135 = .ok (.iload 8, 2) := by decide +kernel
theorem dX8_of_137 : decode cX8_of 137 = .ok (.imul, 1) := by decide +kernel
theorem dX8_of_138 : decode cX8_of 138 = .ok (.iushr, 1) := by decide +kernel
theorem dX8_of_139 : decode cX8_of 139 = .ok (.i2b, 1) := by decide +kernel
theorem dX8_of_140 : decode cX8_of 140 = .ok (.goto 4, 3) := by decide +kernel
theorem dX8_of_143 : decode cX8_of 143 = .ok (.iconst 0, 1) := by decide +kernel
theorem dX8_of_144 : decode cX8_of 144 = .ok (.bastore, 1) := by decide +kernel
theorem dX8_of_145 : decode cX8_of 145 = .ok (.iinc 6 1, 3) := by decide +kernel
theorem dX8_of_148 : decode cX8_of 148 = .ok (.goto (-84), 3) := by decide +kernel
theorem dX8_of_151 : decode cX8_of 151 = .ok (.aload_n 0, 1) := by decide +kernel
theorem dX8_of_152 : decode cX8_of 152 = .ok (.invokevirtual 41, 3) := by decide +kernel
theorem dX8_of_155 : decode cX8_of 155 = .ok (.iinc 5 1, 3) := by decide +kernel
theorem dX8_of_158 : decode cX8_of 158 = .ok (.goto (-104), 3) := by decide +kernel
theorem dX8_of_161 : decode cX8_of 161 = .ok (.iconst 0, 1) := by decide +kernel
theorem dX8_of_162 : decode cX8_of 162 = .ok (.istore 5, 2) := by decide +kernel
theorem dX8_of_164 : decode cX8_of 164 = .ok (.iload 5, 2) := by decide +kernel
theorem dX8_of_166 : decode cX8_of 166 = .ok (.iconst 5, 1) := by decide +kernel
theorem dX8_of_167 : decode cX8_of 167 = .ok (.if_icmp .ge 23, 3) := by decide +kernel
theorem dX8_of_170 : decode cX8_of 170 = .ok (.aload_n 3, 1) := by decide +kernel
theorem dX8_of_171 : decode cX8_of 171 = .ok (.getfield 44, 3) := by decide +kernel
theorem dX8_of_174 : decode cX8_of 174 = .ok (.iload 5, 2) := by decide +kernel
theorem dX8_of_176 : decode cX8_of 176 = .ok (.aload_n 0, 1) := by decide +kernel
theorem dX8_of_177 : decode cX8_of 177 = .ok (.getfield 9, 3) := by decide +kernel
theorem dX8_of_180 : decode cX8_of 180 = .ok (.iload 5, 2) := by decide +kernel
theorem dX8_of_182 : decode cX8_of 182 = .ok (.iaload, 1) := by decide +kernel
theorem dX8_of_183 : decode cX8_of 183 = .ok (.iastore, 1) := by decide +kernel
theorem dX8_of_184 : decode cX8_of 184 = .ok (.iinc 5 1, 3) := by decide +kernel
theorem dX8_of_187 : decode cX8_of 187 = .ok (.goto (-23), 3) := by decide +kernel
theorem dX8_of_190 : decode cX8_of 190 = .ok (.return_, 1) := by decide +kernel
def b_X8_of_164 (x0 x3 x5 : Int) (M : MM) : Option ((Int × MM) ⊕ (MM)) :=
  if w32 x5 < w32 5 then
    (gfr 3 0 x3 M).bind fun v1 =>
    (gfr 8 0 x0 M).bind fun v2 =>
    (lai v2 x5 M).bind fun v3 =>
    (sai v1 x5 v3 M).bind fun M1 =>
    cnt (x5 + 1, M1)
  else
    xit (some M)
def l_X8_of_164 (x0 x3 x5 : Int) (M : MM) : Option (MM) := lpN (fun s : Int × MM => b_X8_of_164 x0 x3 s.1 s.2) FU (x5, M)
def j_X8_of_161 (x0 x3 : Int) (M : MM) : Option (MM) :=
  l_X8_of_164 x0 x3 0 M
def j_X8_of_151 (x0 x1 x2 x3 x4 x5 : Int) (M : MM) : Option ((Int × MM) ⊕ (MM)) :=
  ck 8 x0 M <| (f_X8_work x0 M).bind fun M1 =>
  cnt (x5 + 1, M1)
def j_X8_of_144 (x0 x1 x2 x3 x4 x5 x6 y0 y1 y2 : Int) (M : MM) : Option ((Int × MM) ⊕ ((Int × MM) ⊕ (MM))) :=
  (sab y0 y1 y2 M).bind fun M1 =>
  cnt (x6 + 1, M1)
def b_X8_of_64 (x0 x1 x2 x3 x4 x5 x6 : Int) (M : MM) : Option ((Int × MM) ⊕ ((Int × MM) ⊕ (MM))) :=
  if w32 x6 < w32 64 then
    (gfr 8 2 x0 M).bind fun v1 =>
    if w32 ((64 * x5) + x6) < w32 x2 then
      (lab x1 ((64 * x5) + x6) M).bind fun v2 =>
      j_X8_of_144 x0 x1 x2 x3 x4 x5 x6 v1 x6 v2 M
    else
      if w32 ((64 * x5) + x6) = w32 x2 then
        j_X8_of_144 x0 x1 x2 x3 x4 x5 x6 v1 x6 (-128) M
      else
        if w32 (((64 * x4) - 1) - ((64 * x5) + x6)) < w32 4 then
          j_X8_of_144 x0 x1 x2 x3 x4 x5 x6 v1 x6 (sx8 (bush (8 * x2) (8 * (((64 * x4) - 1) - ((64 * x5) + x6))))) M
        else
          j_X8_of_144 x0 x1 x2 x3 x4 x5 x6 v1 x6 0 M
  else
    xit (j_X8_of_151 x0 x1 x2 x3 x4 x5 M)
def l_X8_of_64 (x0 x1 x2 x3 x4 x5 x6 : Int) (M : MM) : Option ((Int × MM) ⊕ (MM)) := lpN (fun s : Int × MM => b_X8_of_64 x0 x1 x2 x3 x4 x5 s.1 s.2) FU (x6, M)
def b_X8_of_54 (x0 x1 x2 x3 x4 x5 : Int) (M : MM) : Option ((Int × MM) ⊕ (MM)) :=
  if w32 x5 < w32 x4 then
    l_X8_of_64 x0 x1 x2 x3 x4 x5 0 M
  else
    xit (j_X8_of_161 x0 x3 M)
def l_X8_of_54 (x0 x1 x2 x3 x4 x5 : Int) (M : MM) : Option (MM) := lpN (fun s : Int × MM => b_X8_of_54 x0 x1 x2 x3 x4 s.1 s.2) FU (x5, M)
def f_X8_of (x0 x1 x2 x3 : Int) (M : MM) : Option (MM) :=
  (gfr 8 0 x0 M).bind fun v1 =>
  (sai v1 0 1732584193 M).bind fun M1 =>
  (gfr 8 0 x0 M1).bind fun v2 =>
  (sai v2 1 (-271733879) M1).bind fun M2 =>
  (gfr 8 0 x0 M2).bind fun v3 =>
  (sai v3 2 (-1732584194) M2).bind fun M3 =>
  (gfr 8 0 x0 M3).bind fun v4 =>
  (sai v4 3 271733878 M3).bind fun M4 =>
  (gfr 8 0 x0 M4).bind fun v5 =>
  (sai v5 4 (-1009589776) M4).bind fun M5 =>
  (dvi (x2 + 8) 64).bind fun v6 =>
  l_X8_of_54 x0 x1 x2 x3 (v6 + 1) 0 M5
theorem s_X8_of_164 {g : GG} {d : Nat} (hD : 2 ≤ d) {x0 x3 x5 : Int} {M : MM} {o : AV × MM} {P : ((Int × MM) ⊕ (MM)) → Prop} (c0 : ∀ s : Int × MM, P (.inl s) → Sem g d YX8_of 164 [(1, x0), (9, 0), (9, 0), (1, x3), (9, 0), (0, s.1), (9, 0), (9, 0), (9, 0)] [] s.2 o) (r0 : ∀ r : MM, P (.inr r) → o = ((9, 0), r)) {z : (Int × MM) ⊕ (MM)} (h : b_X8_of_164 x0 x3 x5 M = some z) (hz : P z) : Sem g d YX8_of 164 [(1, x0), (9, 0), (9, 0), (1, x3), (9, 0), (0, x5), (9, 0), (9, 0), (9, 0)] [] M o := by
  delta b_X8_of_164 at h
  refine S_iload dX8_of_164 rfl ?_
  refine S_iconst dX8_of_166 rfl ?_
  refine P_icmp_ge (tgt := 190) dX8_of_167 rfl h (fun h => ?_) (fun h => ?_)
  · obtain ⟨z0, h, hz⟩ := xit_some' (P := fun r => P r) h hz
    obtain rfl := r0 _ (some_P (P := fun r => P (.inr r)) h hz)
    exact S_return dX8_of_190 rfl
  · refine S_aload_n (i := 3) dX8_of_170 rfl rfl ?_
    refine P_gfr FLX8_44 rfl dX8_of_171 h (fun v1 h => ?_)
    refine S_iload dX8_of_174 rfl ?_
    refine S_aload_n (i := 0) dX8_of_176 rfl rfl ?_
    refine P_gfr FLX8_9 rfl dX8_of_177 h (fun v2 h => ?_)
    refine S_iload dX8_of_180 rfl ?_
    refine P_lai dX8_of_182 h (fun v3 h => ?_)
    refine P_sai dX8_of_183 h (fun M1 h => ?_)
    refine S_iinc dX8_of_184 rfl rfl rfl ?_
    change Sem g d YX8_of 187 [(1, x0), (9, 0), (9, 0), (1, x3), (9, 0), (0, x5 + 1), (9, 0), (9, 0), (9, 0)] [] M1 o
    refine S_goto (tgt := 164) dX8_of_187 rfl ?_
    exact c0 (x5 + 1, M1) (some_P (P := fun r => P r) h hz)
theorem sl_X8_of_164 {g : GG} {d : Nat} (hD : 2 ≤ d) {x0 x3 x5 : Int} {M : MM} {o : AV × MM} {P : (MM) → Prop} (r0 : ∀ r : MM, P r → o = ((9, 0), r)) {z : MM} (h : l_X8_of_164 x0 x3 x5 M = some z) (hz : P z) : Sem g d YX8_of 164 [(1, x0), (9, 0), (9, 0), (1, x3), (9, 0), (0, x5), (9, 0), (9, 0), (9, 0)] [] M o := by
  refine lp_sound (S := fun s : Int × MM => Sem g d YX8_of 164 [(1, x0), (9, 0), (9, 0), (1, x3), (9, 0), (0, s.1), (9, 0), (9, 0), (9, 0)] [] s.2 o) (P := P) ?_ FU (x5, M) z h hz
  intro s x hx hP
  exact s_X8_of_164 hD (P := Sum.elim (fun s : Int × MM => Sem g d YX8_of 164 [(1, x0), (9, 0), (9, 0), (1, x3), (9, 0), (0, s.1), (9, 0), (9, 0), (9, 0)] [] s.2 o) P) (fun s h => h) (fun s h => r0 s h) hx hP
theorem s_X8_of_161 {g : GG} {d : Nat} (hD : 2 ≤ d) {x0 x3 : Int} {M : MM} {o : AV × MM} {P : (MM) → Prop} (r0 : ∀ r : MM, P r → o = ((9, 0), r)) {z : MM} (h : j_X8_of_161 x0 x3 M = some z) (hz : P z) : Sem g d YX8_of 161 [(1, x0), (9, 0), (9, 0), (1, x3), (9, 0), (9, 0), (9, 0), (9, 0), (9, 0)] [] M o := by
  delta j_X8_of_161 at h
  refine S_iconst dX8_of_161 rfl ?_
  refine S_istore dX8_of_162 (Nat.le_of_ble_eq_true rfl) rfl rfl ?_
  change Sem g d YX8_of 164 [(1, x0), (9, 0), (9, 0), (1, x3), (9, 0), (0, 0), (9, 0), (9, 0), (9, 0)] [] M o
  exact sl_X8_of_164 hD r0 h hz
theorem s_X8_of_151 {g : GG} {d : Nat} (hD : 2 ≤ d) {x0 x1 x2 x3 x4 x5 : Int} {M : MM} {o : AV × MM} {P : ((Int × MM) ⊕ (MM)) → Prop} (c0 : ∀ s : Int × MM, P (.inl s) → Sem g d YX8_of 54 [(1, x0), (1, x1), (0, x2), (1, x3), (0, x4), (0, s.1), (9, 0), (9, 0), (9, 0)] [] s.2 o) (r0 : ∀ r : MM, P (.inr r) → o = ((9, 0), r)) {z : (Int × MM) ⊕ (MM)} (h : j_X8_of_151 x0 x1 x2 x3 x4 x5 M = some z) (hz : P z) : Sem g d YX8_of 151 [(1, x0), (1, x1), (0, x2), (1, x3), (0, x4), (0, x5), (9, 0), (9, 0), (9, 0)] [] M o := by
  delta j_X8_of_151 at h
  refine S_aload_n (i := 0) dX8_of_151 rfl rfl ?_
  refine P_invVm' [] [] CVX8_work MLX8_41 dX8_of_152 rfl rfl rfl rfl (by omega) h (fun r h => F_X8_work (by omega) h) (fun M1 h => ?_)
  refine S_iinc dX8_of_155 rfl rfl rfl ?_
  change Sem g d YX8_of 158 [(1, x0), (1, x1), (0, x2), (1, x3), (0, x4), (0, x5 + 1), (9, 0), (9, 0), (9, 0)] [] M1 o
  refine S_goto (tgt := 54) dX8_of_158 rfl ?_
  exact c0 (x5 + 1, M1) (some_P (P := fun r => P r) h hz)
theorem s_X8_of_144 {g : GG} {d : Nat} (hD : 2 ≤ d) {x0 x1 x2 x3 x4 x5 x6 y0 y1 y2 : Int} {M : MM} {o : AV × MM} {P : ((Int × MM) ⊕ ((Int × MM) ⊕ (MM))) → Prop} (c1 : ∀ s : Int × MM, P (.inl s) → Sem g d YX8_of 64 [(1, x0), (1, x1), (0, x2), (1, x3), (0, x4), (0, x5), (0, s.1), (9, 0), (9, 0)] [] s.2 o) (c0 : ∀ s : Int × MM, P (.inr (.inl s)) → Sem g d YX8_of 54 [(1, x0), (1, x1), (0, x2), (1, x3), (0, x4), (0, s.1), (9, 0), (9, 0), (9, 0)] [] s.2 o) (r0 : ∀ r : MM, P (.inr (.inr r)) → o = ((9, 0), r)) {z : (Int × MM) ⊕ ((Int × MM) ⊕ (MM))} (h : j_X8_of_144 x0 x1 x2 x3 x4 x5 x6 y0 y1 y2 M = some z) (hz : P z) : Sem g d YX8_of 144 [(1, x0), (1, x1), (0, x2), (1, x3), (0, x4), (0, x5), (0, x6), (9, 0), (9, 0)] [(0, y2), (0, y1), (1, y0)] M o := by
  delta j_X8_of_144 at h
  refine P_sab dX8_of_144 h (fun M1 h => ?_)
  refine S_iinc dX8_of_145 rfl rfl rfl ?_
  change Sem g d YX8_of 148 [(1, x0), (1, x1), (0, x2), (1, x3), (0, x4), (0, x5), (0, x6 + 1), (9, 0), (9, 0)] [] M1 o
  refine S_goto (tgt := 64) dX8_of_148 rfl ?_
  exact c1 (x6 + 1, M1) (some_P (P := fun r => P r) h hz)
theorem s_X8_of_64 {g : GG} {d : Nat} (hD : 2 ≤ d) {x0 x1 x2 x3 x4 x5 x6 : Int} {M : MM} {o : AV × MM} {P : ((Int × MM) ⊕ ((Int × MM) ⊕ (MM))) → Prop} (c1 : ∀ s : Int × MM, P (.inl s) → Sem g d YX8_of 64 [(1, x0), (1, x1), (0, x2), (1, x3), (0, x4), (0, x5), (0, s.1), (9, 0), (9, 0)] [] s.2 o) (c0 : ∀ s : Int × MM, P (.inr (.inl s)) → Sem g d YX8_of 54 [(1, x0), (1, x1), (0, x2), (1, x3), (0, x4), (0, s.1), (9, 0), (9, 0), (9, 0)] [] s.2 o) (r0 : ∀ r : MM, P (.inr (.inr r)) → o = ((9, 0), r)) {z : (Int × MM) ⊕ ((Int × MM) ⊕ (MM))} (h : b_X8_of_64 x0 x1 x2 x3 x4 x5 x6 M = some z) (hz : P z) : Sem g d YX8_of 64 [(1, x0), (1, x1), (0, x2), (1, x3), (0, x4), (0, x5), (0, x6), (9, 0), (9, 0)] [] M o := by
  delta b_X8_of_64 at h
  refine S_iload dX8_of_64 rfl ?_
  refine S_bipush (z := 64) dX8_of_66 rfl ?_
  refine P_icmp_ge (tgt := 151) dX8_of_68 rfl h (fun h => ?_) (fun h => ?_)
  · refine S_weak (ls' := [(1, x0), (1, x1), (0, x2), (1, x3), (0, x4), (0, x5), (9, 0), (9, 0), (9, 0)]) ⟨Or.inr rfl, ⟨Or.inr rfl, ⟨Or.inr rfl, ⟨Or.inr rfl, ⟨Or.inr rfl, ⟨Or.inr rfl, ⟨Or.inl rfl, ⟨Or.inl rfl, ⟨Or.inl rfl, trivial⟩⟩⟩⟩⟩⟩⟩⟩⟩ ?_
    obtain ⟨z0, h, hz⟩ := xit_some' (P := fun r => P r) h hz
    exact s_X8_of_151 hD (P := fun r => P (.inr r)) c0 r0 h hz
  · refine S_bipush (z := 64) dX8_of_71 rfl ?_
    refine S_iload dX8_of_73 rfl ?_
    refine S_imul dX8_of_75 ?_
    refine S_iload dX8_of_76 rfl ?_
    refine S_iadd dX8_of_78 ?_
    refine S_istore dX8_of_79 (Nat.le_of_ble_eq_true rfl) rfl rfl ?_
    change Sem g d YX8_of 81 [(1, x0), (1, x1), (0, x2), (1, x3), (0, x4), (0, x5), (0, x6), (0, (64 * x5) + x6), (9, 0)] [] M o
    refine S_bipush (z := 64) dX8_of_81 rfl ?_
    refine S_iload dX8_of_83 rfl ?_
    refine S_imul dX8_of_85 ?_
    refine S_iconst dX8_of_86 rfl ?_
    refine S_isub dX8_of_87 ?_
    refine S_iload dX8_of_88 rfl ?_
    refine S_isub dX8_of_90 ?_
    refine S_istore dX8_of_91 (Nat.le_of_ble_eq_true rfl) rfl rfl ?_
    change Sem g d YX8_of 93 [(1, x0), (1, x1), (0, x2), (1, x3), (0, x4), (0, x5), (0, x6), (0, (64 * x5) + x6), (0, ((64 * x4) - 1) - ((64 * x5) + x6))] [] M o
    refine S_aload_n (i := 0) dX8_of_93 rfl rfl ?_
    refine P_gfr FLX8_18 rfl dX8_of_94 h (fun v1 h => ?_)
    refine S_iload dX8_of_97 rfl ?_
    refine S_iload dX8_of_99 rfl ?_
    refine S_iload_n (i := 2) dX8_of_101 rfl rfl ?_
    refine P_icmp_ge (tgt := 112) dX8_of_102 rfl h (fun h => ?_) (fun h => ?_)
    · refine S_iload dX8_of_112 rfl ?_
      refine S_iload_n (i := 2) dX8_of_114 rfl rfl ?_
      refine P_icmp_ne (tgt := 123) dX8_of_115 rfl h (fun h => ?_) (fun h => ?_)
      · refine S_iload dX8_of_123 rfl ?_
        refine S_iconst dX8_of_125 rfl ?_
        refine P_icmp_ge (tgt := 143) dX8_of_126 rfl h (fun h => ?_) (fun h => ?_)
        · refine S_iconst dX8_of_143 rfl ?_
          refine S_weak (ls' := [(1, x0), (1, x1), (0, x2), (1, x3), (0, x4), (0, x5), (0, x6), (9, 0), (9, 0)]) ⟨Or.inr rfl, ⟨Or.inr rfl, ⟨Or.inr rfl, ⟨Or.inr rfl, ⟨Or.inr rfl, ⟨Or.inr rfl, ⟨Or.inr rfl, ⟨Or.inl rfl, ⟨Or.inl rfl, trivial⟩⟩⟩⟩⟩⟩⟩⟩⟩ ?_
          exact s_X8_of_144 hD c1 c0 r0 h hz
        · refine S_bipush (z := 8) dX8_of_129 rfl ?_
          refine S_iload_n (i := 2) dX8_of_131 rfl rfl ?_
          refine S_imul dX8_of_132 ?_
          refine S_bipush (z := 8) dX8_of_133 rfl ?_
          refine S_iload dX8_of_135 rfl ?_
          refine S_imul dX8_of_137 ?_
          refine S_iushr dX8_of_138 ?_
          refine S_i2b dX8_of_139 ?_
          refine S_goto (tgt := 144) dX8_of_140 rfl ?_
          refine S_weak (ls' := [(1, x0), (1, x1), (0, x2), (1, x3), (0, x4), (0, x5), (0, x6), (9, 0), (9, 0)]) ⟨Or.inr rfl, ⟨Or.inr rfl, ⟨Or.inr rfl, ⟨Or.inr rfl, ⟨Or.inr rfl, ⟨Or.inr rfl, ⟨Or.inr rfl, ⟨Or.inl rfl, ⟨Or.inl rfl, trivial⟩⟩⟩⟩⟩⟩⟩⟩⟩ ?_
          exact s_X8_of_144 hD c1 c0 r0 h hz
      · refine S_bipush (z := (-128)) dX8_of_118 rfl ?_
        refine S_goto (tgt := 144) dX8_of_120 rfl ?_
        refine S_weak (ls' := [(1, x0), (1, x1), (0, x2), (1, x3), (0, x4), (0, x5), (0, x6), (9, 0), (9, 0)]) ⟨Or.inr rfl, ⟨Or.inr rfl, ⟨Or.inr rfl, ⟨Or.inr rfl, ⟨Or.inr rfl, ⟨Or.inr rfl, ⟨Or.inr rfl, ⟨Or.inl rfl, ⟨Or.inl rfl, trivial⟩⟩⟩⟩⟩⟩⟩⟩⟩ ?_
        exact s_X8_of_144 hD c1 c0 r0 h hz
    · refine S_aload_n (i := 1) dX8_of_105 rfl rfl ?_
      refine S_iload dX8_of_106 rfl ?_
      refine P_lab dX8_of_108 h (fun v2 h => ?_)
      refine S_goto (tgt := 144) dX8_of_109 rfl ?_
      refine S_weak (ls' := [(1, x0), (1, x1), (0, x2), (1, x3), (0, x4), (0, x5), (0, x6), (9, 0), (9, 0)]) ⟨Or.inr rfl, ⟨Or.inr rfl, ⟨Or.inr rfl, ⟨Or.inr rfl, ⟨Or.inr rfl, ⟨Or.inr rfl, ⟨Or.inr rfl, ⟨Or.inl rfl, ⟨Or.inl rfl, trivial⟩⟩⟩⟩⟩⟩⟩⟩⟩ ?_
      exact s_X8_of_144 hD c1 c0 r0 h hz
theorem sl_X8_of_64 {g : GG} {d : Nat} (hD : 2 ≤ d) {x0 x1 x2 x3 x4 x5 x6 : Int} {M : MM} {o : AV × MM} {P : ((Int × MM) ⊕ (MM)) → Prop} (c0 : ∀ s : Int × MM, P (.inl s) → Sem g d YX8_of 54 [(1, x0), (1, x1), (0, x2), (1, x3), (0, x4), (0, s.1), (9, 0), (9, 0), (9, 0)] [] s.2 o) (r0 : ∀ r : MM, P (.inr r) → o = ((9, 0), r)) {z : (Int × MM) ⊕ (MM)} (h : l_X8_of_64 x0 x1 x2 x3 x4 x5 x6 M = some z) (hz : P z) : Sem g d YX8_of 64 [(1, x0), (1, x1), (0, x2), (1, x3), (0, x4), (0, x5), (0, x6), (9, 0), (9, 0)] [] M o := by
  refine lp_sound (S := fun s : Int × MM => Sem g d YX8_of 64 [(1, x0), (1, x1), (0, x2), (1, x3), (0, x4), (0, x5), (0, s.1), (9, 0), (9, 0)] [] s.2 o) (P := P) ?_ FU (x6, M) z h hz
  intro s x hx hP
  exact s_X8_of_64 hD (P := Sum.elim (fun s : Int × MM => Sem g d YX8_of 64 [(1, x0), (1, x1), (0, x2), (1, x3), (0, x4), (0, x5), (0, s.1), (9, 0), (9, 0)] [] s.2 o) P) (fun s h => h) (fun s h => c0 s h) (fun s h => r0 s h) hx hP
theorem s_X8_of_54 {g : GG} {d : Nat} (hD : 2 ≤ d) {x0 x1 x2 x3 x4 x5 : Int} {M : MM} {o : AV × MM} {P : ((Int × MM) ⊕ (MM)) → Prop} (c0 : ∀ s : Int × MM, P (.inl s) → Sem g d YX8_of 54 [(1, x0), (1, x1), (0, x2), (1, x3), (0, x4), (0, s.1), (9, 0), (9, 0), (9, 0)] [] s.2 o) (r0 : ∀ r : MM, P (.inr r) → o = ((9, 0), r)) {z : (Int × MM) ⊕ (MM)} (h : b_X8_of_54 x0 x1 x2 x3 x4 x5 M = some z) (hz : P z) : Sem g d YX8_of 54 [(1, x0), (1, x1), (0, x2), (1, x3), (0, x4), (0, x5), (9, 0), (9, 0), (9, 0)] [] M o := by
  delta b_X8_of_54 at h
  refine S_iload dX8_of_54 rfl ?_
  refine S_iload dX8_of_56 rfl ?_
  refine P_icmp_ge (tgt := 161) dX8_of_58 rfl h (fun h => ?_) (fun h => ?_)
  · refine S_weak (ls' := [(1, x0), (9, 0), (9, 0), (1, x3), (9, 0), (9, 0), (9, 0), (9, 0), (9, 0)]) ⟨Or.inr rfl, ⟨Or.inl rfl, ⟨Or.inl rfl, ⟨Or.inr rfl, ⟨Or.inl rfl, ⟨Or.inl rfl, ⟨Or.inl rfl, ⟨Or.inl rfl, ⟨Or.inl rfl, trivial⟩⟩⟩⟩⟩⟩⟩⟩⟩ ?_
    obtain ⟨z0, h, hz⟩ := xit_some' (P := fun r => P r) h hz
    exact s_X8_of_161 hD (P := fun r => P (.inr r)) r0 h hz
  · refine S_iconst dX8_of_61 rfl ?_
    refine S_istore dX8_of_62 (Nat.le_of_ble_eq_true rfl) rfl rfl ?_
    change Sem g d YX8_of 64 [(1, x0), (1, x1), (0, x2), (1, x3), (0, x4), (0, x5), (0, 0), (9, 0), (9, 0)] [] M o
    exact sl_X8_of_64 hD c0 r0 h hz
theorem sl_X8_of_54 {g : GG} {d : Nat} (hD : 2 ≤ d) {x0 x1 x2 x3 x4 x5 : Int} {M : MM} {o : AV × MM} {P : (MM) → Prop} (r0 : ∀ r : MM, P r → o = ((9, 0), r)) {z : MM} (h : l_X8_of_54 x0 x1 x2 x3 x4 x5 M = some z) (hz : P z) : Sem g d YX8_of 54 [(1, x0), (1, x1), (0, x2), (1, x3), (0, x4), (0, x5), (9, 0), (9, 0), (9, 0)] [] M o := by
  refine lp_sound (S := fun s : Int × MM => Sem g d YX8_of 54 [(1, x0), (1, x1), (0, x2), (1, x3), (0, x4), (0, s.1), (9, 0), (9, 0), (9, 0)] [] s.2 o) (P := P) ?_ FU (x5, M) z h hz
  intro s x hx hP
  exact s_X8_of_54 hD (P := Sum.elim (fun s : Int × MM => Sem g d YX8_of 54 [(1, x0), (1, x1), (0, x2), (1, x3), (0, x4), (0, s.1), (9, 0), (9, 0), (9, 0)] [] s.2 o) P) (fun s h => h) (fun s h => r0 s h) hx hP
theorem s_X8_of_0 {g : GG} {d : Nat} (hD : 2 ≤ d) {x0 x1 x2 x3 : Int} {M : MM} {o : AV × MM} {P : (MM) → Prop} (r0 : ∀ r : MM, P r → o = ((9, 0), r)) {z : MM} (h : f_X8_of x0 x1 x2 x3 M = some z) (hz : P z) : Sem g d YX8_of 0 [(1, x0), (1, x1), (0, x2), (1, x3), (9, 0), (9, 0), (9, 0), (9, 0), (9, 0)] [] M o := by
  delta f_X8_of at h
  refine S_aload_n (i := 0) dX8_of_0 rfl rfl ?_
  refine P_gfr FLX8_9 rfl dX8_of_1 h (fun v1 h => ?_)
  refine S_iconst dX8_of_4 rfl ?_
  refine S_ldc (z := 1732584193) kX8_36 dX8_of_5 ?_
  refine P_sai dX8_of_7 h (fun M1 h => ?_)
  refine S_aload_n (i := 0) dX8_of_8 rfl rfl ?_
  refine P_gfr FLX8_9 rfl dX8_of_9 h (fun v2 h => ?_)
  refine S_iconst dX8_of_12 rfl ?_
  refine S_ldc (z := (-271733879)) kX8_37 dX8_of_13 ?_
  refine P_sai dX8_of_15 h (fun M2 h => ?_)
  refine S_aload_n (i := 0) dX8_of_16 rfl rfl ?_
  refine P_gfr FLX8_9 rfl dX8_of_17 h (fun v3 h => ?_)
  refine S_iconst dX8_of_20 rfl ?_
  refine S_ldc (z := (-1732584194)) kX8_38 dX8_of_21 ?_
  refine P_sai dX8_of_23 h (fun M3 h => ?_)
  refine S_aload_n (i := 0) dX8_of_24 rfl rfl ?_
  refine P_gfr FLX8_9 rfl dX8_of_25 h (fun v4 h => ?_)
  refine S_iconst dX8_of_28 rfl ?_
  refine S_ldc (z := 271733878) kX8_39 dX8_of_29 ?_
  refine P_sai dX8_of_31 h (fun M4 h => ?_)
  refine S_aload_n (i := 0) dX8_of_32 rfl rfl ?_
  refine P_gfr FLX8_9 rfl dX8_of_33 h (fun v5 h => ?_)
  refine S_iconst dX8_of_36 rfl ?_
  refine S_ldc (z := (-1009589776)) kX8_40 dX8_of_37 ?_
  refine P_sai dX8_of_39 h (fun M5 h => ?_)
  refine S_iload_n (i := 2) dX8_of_40 rfl rfl ?_
  refine S_bipush (z := 8) dX8_of_41 rfl ?_
  refine S_iadd dX8_of_43 ?_
  refine S_bipush (z := 64) dX8_of_44 rfl ?_
  refine P_dvi dX8_of_46 h (fun v6 h => ?_)
  refine S_iconst dX8_of_47 rfl ?_
  refine S_iadd dX8_of_48 ?_
  refine S_istore dX8_of_49 (Nat.le_of_ble_eq_true rfl) rfl rfl ?_
  change Sem g d YX8_of 51 [(1, x0), (1, x1), (0, x2), (1, x3), (0, v6 + 1), (9, 0), (9, 0), (9, 0), (9, 0)] [] M5 o
  refine S_iconst dX8_of_51 rfl ?_
  refine S_istore dX8_of_52 (Nat.le_of_ble_eq_true rfl) rfl rfl ?_
  change Sem g d YX8_of 54 [(1, x0), (1, x1), (0, x2), (1, x3), (0, v6 + 1), (0, 0), (9, 0), (9, 0), (9, 0)] [] M5 o
  exact sl_X8_of_54 hD r0 h hz
theorem F_X8_of {g : GG} {d : Nat} (hD : 2 ≤ d) {x0 x1 x2 x3 : Int} {M : MM} {r : MM} (h : f_X8_of x0 x1 x2 x3 M = some r) : Sem g d YX8_of 0 (ini YX8_of [(1, x0), (1, x1), (0, x2), (1, x3)]) [] M ((9, 0), r) := by
  change Sem g d YX8_of 0 [(1, x0), (1, x1), (0, x2), (1, x3), (9, 0), (9, 0), (9, 0), (9, 0), (9, 0)] [] M ((9, 0), r)
  exact s_X8_of_0 hD (P := fun x => x = r) (fun q e => by rw [e]) h rfl
/-! PeerSearch$Term.<init>()V -/
theorem dX29_init_0 : decode cX29_init 0 = .ok (.aload_n 0, 1) := by decide +kernel
theorem dX29_init_1 : decode cX29_init 1 = .ok (.invokespecial 3, 3) := by decide +kernel
theorem dX29_init_4 : decode cX29_init 4 = .ok (.aload_n 0, 1) := by decide +kernel
theorem dX29_init_5 : decode cX29_init 5 = .ok (.bipush 12, 2) := by decide +kernel
theorem dX29_init_7 : decode cX29_init 7 = .ok (.newarray .byte, 2) := by decide +kernel
theorem dX29_init_9 : decode cX29_init 9 = .ok (.putfield 9, 3) := by decide +kernel
theorem dX29_init_12 : decode cX29_init 12 = .ok (.aload_n 0, 1) := by decide +kernel
theorem dX29_init_13 : decode cX29_init 13 = .ok (.new 15, 3) := by decide +kernel
theorem dX29_init_16 : decode cX29_init 16 = .ok (.dup, 1) := by decide +kernel
theorem dX29_init_17 : decode cX29_init 17 = .ok (.invokespecial 17, 3) := by decide +kernel
theorem dX29_init_20 : decode cX29_init 20 = .ok (.putfield 18, 3) := by decide +kernel
theorem dX29_init_23 : decode cX29_init 23 = .ok (.aload_n 0, 1) := by decide +kernel
theorem dX29_init_24 : decode cX29_init 24 = .ok (.bipush 16, 2) := by decide +kernel
theorem dX29_init_26 : decode cX29_init 26 = .ok (.newarray .int, 2) := by decide +kernel
theorem dX29_init_28 : decode cX29_init 28 = .ok (.putfield 22, 3) := by decide +kernel
theorem dX29_init_31 : decode cX29_init 31 = .ok (.return_, 1) := by decide +kernel
def f_X29_init (x0 : Int) (M : MM) : Option (MM) :=
  nn x0 <|
  (nar 497 12 M).bind fun r1 =>
  (pfr 29 0 x0 r1.1 r1.2).bind fun M1 =>
  (nob 3 1 26 M1).bind fun r2 =>
  nn r2.1 <| (f_X3_init r2.1 r2.2).bind fun M2 =>
  (pfr 29 2 x0 r2.1 M2).bind fun M3 =>
  (nar 512 16 M3).bind fun r3 =>
  (pfr 29 3 x0 r3.1 r3.2).bind fun M4 =>
  some M4
theorem s_X29_init_0 {g : GG} {d : Nat} (hD : 2 ≤ d) {x0 : Int} {M : MM} {o : AV × MM} {P : (MM) → Prop} (r0 : ∀ r : MM, P r → o = ((9, 0), r)) {z : MM} (h : f_X29_init x0 M = some z) (hz : P z) : Sem g d YX29_init 0 [(1, x0)] [] M o := by
  delta f_X29_init at h
  refine S_aload_n (i := 0) dX29_init_0 rfl rfl ?_
  refine P_obj q1727 dX29_init_1 rfl (by omega) h (fun h => ?_)
  refine S_aload_n (i := 0) dX29_init_4 rfl rfl ?_
  refine S_bipush (z := 12) dX29_init_5 rfl ?_
  refine P_nar (k := 497) (t := 0) (at' := .byte) (by decide) (by decide) rfl q247 dX29_init_7 h (fun r1 h => ?_)
  refine P_pfr FLX29_9 FPX29_9 (Or.inr ⟨_, rfl⟩) rfl dX29_init_9 h (fun M1 h => ?_)
  refine S_aload_n (i := 0) dX29_init_12 rfl rfl ?_
  refine P_nob NLX29_15 rfl dX29_init_13 h (fun r2 h => ?_)
  refine S_dup dX29_init_16 (Nat.le_of_ble_eq_true rfl) ?_
  refine P_invI' [] [(1, r2.1), (1, x0)] CIX3_init MLX29_17 dX29_init_17 rfl rfl rfl rfl (by omega) h (fun r h => F_X3_init (by omega) h) (fun M2 h => ?_)
  refine P_pfr FLX29_18 FPX29_18 (Or.inl ⟨_, rfl⟩) rfl dX29_init_20 h (fun M3 h => ?_)
  refine S_aload_n (i := 0) dX29_init_23 rfl rfl ?_
  refine S_bipush (z := 16) dX29_init_24 rfl ?_
  refine P_nar (k := 512) (t := 0) (at' := .int) (by decide) (by decide) rfl q248 dX29_init_26 h (fun r3 h => ?_)
  refine P_pfr FLX29_22 FPX29_22 (Or.inr ⟨_, rfl⟩) rfl dX29_init_28 h (fun M4 h => ?_)
  obtain rfl := r0 _ (some_P (P := fun r => P r) h hz)
  exact S_return dX29_init_31 rfl
theorem F_X29_init {g : GG} {d : Nat} (hD : 2 ≤ d) {x0 : Int} {M : MM} {r : MM} (h : f_X29_init x0 M = some r) : Sem g d YX29_init 0 (ini YX29_init [(1, x0)]) [] M ((9, 0), r) := by
  change Sem g d YX29_init 0 [(1, x0)] [] M ((9, 0), r)
  exact s_X29_init_0 hD (P := fun x => x = r) (fun q e => by rw [e]) h rfl
/-! PeerSearch$Library.make(LPeerSearch$Cutter;IILPeerSearch$Sha;)V -/
theorem dX19_make_0 : decode cX19_make 0 = .ok (.new 9, 3) := by decide +kernel
theorem dX19_make_3 : decode cX19_make 3 = .ok (.dup, 1) := by decide +kernel
theorem dX19_make_4 : decode cX19_make 4 = .ok (.invokespecial 45, 3) := by decide +kernel
theorem dX19_make_7 : decode cX19_make 7 = .ok (.astore 5, 2) := by decide +kernel
theorem dX19_make_9 : decode cX19_make 9 = .ok (.aload 5, 2) := by decide +kernel
theorem dX19_make_11 : decode cX19_make 11 = .ok (.aload_n 1, 1) := by decide +kernel
theorem dX19_make_12 : decode cX19_make 12 = .ok (.getfield 46, 3) := by decide +kernel
theorem dX19_make_15 : decode cX19_make 15 = .ok (.iload_n 2, 1) := by decide +kernel
theorem dX19_make_16 : decode cX19_make 16 = .ok (.iaload, 1) := by decide +kernel
theorem dX19_make_17 : decode cX19_make 17 = .ok (.putfield 49, 3) := by decide +kernel
theorem dX19_make_20 : decode cX19_make 20 = .ok (.iconst 0, 1) := by decide +kernel
theorem dX19_make_21 : decode cX19_make 21 = .ok (.istore 6, 2) := by decide +kernel
theorem dX19_make_23 : decode cX19_make 23 = .ok (.iload 6, 2) := by decide +kernel
theorem dX19_make_25 : decode cX19_make 25 = .ok (.aload 5, 2) := by decide +kernel
theorem dX19_make_27 : decode cX19_make 27 = .ok (.getfield 49, 3) := by decide +kernel
theorem dX19_make_30 : decode cX19_make 30 = .ok (.if_icmp .ge 29, 3) := by decide +kernel
theorem dX19_make_33 : decode cX19_make 33 = .ok (.aload 5, 2) := by decide +kernel
theorem dX19_make_35 : decode cX19_make 35 = .ok (.getfield 50, 3) := by decide +kernel
theorem dX19_make_38 : decode cX19_make 38 = .ok (.iload 6, 2) := by decide +kernel
theorem dX19_make_40 : decode cX19_make 40 = .ok (.aload_n 1, 1) := by decide +kernel
theorem dX19_make_41 : decode cX19_make 41 = .ok (.getfield 54, 3) := by decide +kernel
theorem dX19_make_44 : decode cX19_make 44 = .ok (.bipush 12, 2) := by decide +kernel
theorem dX19_make_46 : decode cX19_make 46 = .ok (.iload_n 2, 1) := by decide +kernel
theorem dX19_make_47 : decode cX19_make 47 = .ok (.imul, 1) := by decide +kernel
theorem dX19_make_48 : decode cX19_make 48 = .ok (.iload 6, 2) := by decide +kernel
theorem dX19_make_50 : decode cX19_make 50 = .ok (.iadd, 1) := by decide +kernel
theorem dX19_make_51 : decode cX19_make 51 = .ok (.baload, 1) := by decide +kernel
theorem dX19_make_52 : decode cX19_make 52 = .ok (.bastore, 1) := by decide +kernel
theorem dX19_make_53 : decode cX19_make 53 = .ok (.iinc 6 1, 3) := by decide +kernel
theorem dX19_make_56 : decode cX19_make 56 = .ok (.goto (-33), 3) := by decide +kernel
theorem dX19_make_59 : decode cX19_make 59 = .ok (.aload 4, 2) := by decide +kernel
theorem dX19_make_61 : decode cX19_make 61 = .ok (.aload 5, 2) := by decide +kernel
theorem dX19_make_63 : decode cX19_make 63 = .ok (.getfield 50, 3) := by decide +kernel
theorem dX19_make_66 : decode cX19_make 66 = .ok (.aload 5, 2) := by decide +kernel
theorem dX19_make_68 : decode cX19_make 68 = .ok (.getfield 49, 3) := by decide +kernel
theorem dX19_make_71 : decode cX19_make 71 = .ok (.aload 5, 2) := by decide +kernel
theorem dX19_make_73 : decode cX19_make 73 = .ok (.getfield 55, 3) := by decide +kernel
theorem dX19_make_76 : decode cX19_make 76 = .ok (.invokevirtual 59, 3) := by decide +kernel
theorem dX19_make_79 : decode cX19_make 79 = .ok (.aload_n 0, 1) := by decide +kernel
theorem dX19_make_80 : decode cX19_make 80 = .ok (.getfield 17, 3) := by decide +kernel
theorem dX19_make_83 : decode cX19_make 83 = .ok (.istore 6, 2) := by decide +kernel
theorem dX19_make_85 : decode cX19_make 85 = .ok (.iload 6, 2) := by decide +kernel
theorem dX19_make_87 : decode cX19_make 87 = .ok (.iload_n 3, 1) := by decide +kernel
theorem dX19_make_88 : decode cX19_make 88 = .ok (.if_icmp .le 25, 3) := by decide +kernel
theorem dX19_make_91 : decode cX19_make 91 = .ok (.aload_n 0, 1) := by decide +kernel
theorem dX19_make_92 : decode cX19_make 92 = .ok (.getfield 11, 3) := by decide +kernel
theorem dX19_make_95 : decode cX19_make 95 = .ok (.iload 6, 2) := by decide +kernel
theorem dX19_make_97 : decode cX19_make 97 = .ok (.aload_n 0, 1) := by decide +kernel
theorem dX19_make_98 : decode cX19_make 98 = .ok (.getfield 11, 3) := by decide +kernel
theorem dX19_make_101 : decode cX19_make 101 = .ok (.iload 6, 2) := by decide +kernel
theorem dX19_make_103 : decode cX19_make 103 = .ok (.iconst 1, 1) := by decide +kernel
theorem dX19_make_104 : decode cX19_make 104 = .ok (.isub, 1) := by decide +kernel
theorem dX19_make_105 : decode cX19_make 105 = .ok (.aaload, 1) := by decide +kernel
theorem dX19_make_106 : decode cX19_make 106 = .ok (.aastore, 1) := by decide +kernel
theorem dX19_make_107 : decode cX19_make 107 = .ok (.iinc 6 (-1), 3) := by decide +kernel
theorem dX19_make_110 : decode cX19_make 110 = .ok (.goto (-25), 3) := by decide +kernel
theorem dX19_make_113 : decode cX19_make 113 = .ok (.aload_n 0, 1) := by decide +kernel
theorem dX19_make_114 : decode cX19_make 114 = .ok (.getfield 11, 3) := by decide +kernel
theorem dX19_make_117 : decode cX19_make 117 = .ok (.iload_n 3, 1) := by decide +kernel
theorem dX19_make_118 : decode cX19_make 118 = .ok (.aload 5, 2) := by decide +kernel
theorem dX19_make_120 : decode cX19_make 120 = .ok (.aastore, 1) := by decide +kernel
theorem dX19_make_121 : decode cX19_make 121 = .ok (.aload_n 0, 1) := by decide +kernel
theorem dX19_make_122 : decode cX19_make 122 = .ok (.dup, 1) := by decide +kernel
theorem dX19_make_123 : decode cX19_make 123 = .ok (.getfield 17, 3) := by decide +kernel
theorem dX19_make_126 : decode cX19_make 126 = .ok (.iconst 1, 1) := by decide +kernel
theorem dX19_make_127 : decode cX19_make 127 = .ok (.iadd, 1) := by decide +kernel
theorem dX19_make_128 : decode cX19_make 128 = .ok (.putfield 17, 3) := by decide +kernel
theorem dX19_make_131 : decode cX19_make 131 = .ok (.return_, 1) := by decide +kernel
def j_X19_make_113 (x0 x3 x5 : Int) (M : MM) : Option (MM) :=
  (gfr 19 0 x0 M).bind fun v1 =>
  (sar 10 v1 x3 x5 M).bind fun M1 =>
  (gfi 19 1 x0 M1).bind fun v2 =>
  (pfi 19 1 x0 (v2 + 1) M1).bind fun M2 =>
  some M2
def b_X19_make_85 (x0 x3 x5 x6 : Int) (M : MM) : Option ((Int × MM) ⊕ (MM)) :=
  if w32 x3 < w32 x6 then
    (gfr 19 0 x0 M).bind fun v1 =>
    (gfr 19 0 x0 M).bind fun v2 =>
    (lar 10 v2 (x6 - 1) M).bind fun v3 =>
    (sar 10 v1 x6 v3 M).bind fun M1 =>
    cnt (x6 + (-1), M1)
  else
    xit (j_X19_make_113 x0 x3 x5 M)
def l_X19_make_85 (x0 x3 x5 x6 : Int) (M : MM) : Option (MM) := lpN (fun s : Int × MM => b_X19_make_85 x0 x3 x5 s.1 s.2) FU (x6, M)
def j_X19_make_59 (x0 x3 x4 x5 : Int) (M : MM) : Option (MM) :=
  (gfr 29 0 x5 M).bind fun v1 =>
  (gfi 29 1 x5 M).bind fun v2 =>
  (gfr 29 2 x5 M).bind fun v3 =>
  ck 8 x4 M <| (f_X8_of x4 v1 v2 v3 M).bind fun M1 =>
  (gfi 19 1 x0 M1).bind fun v4 =>
  l_X19_make_85 x0 x3 x5 v4 M1
def b_X19_make_23 (x0 x1 x2 x3 x4 x5 x6 : Int) (M : MM) : Option ((Int × MM) ⊕ (MM)) :=
  (gfi 29 1 x5 M).bind fun v1 =>
  if w32 x6 < w32 v1 then
    (gfr 29 0 x5 M).bind fun v2 =>
    (gfr 2 0 x1 M).bind fun v3 =>
    (lab v3 ((12 * x2) + x6) M).bind fun v4 =>
    (sab v2 x6 v4 M).bind fun M1 =>
    cnt (x6 + 1, M1)
  else
    xit (j_X19_make_59 x0 x3 x4 x5 M)
def l_X19_make_23 (x0 x1 x2 x3 x4 x5 x6 : Int) (M : MM) : Option (MM) := lpN (fun s : Int × MM => b_X19_make_23 x0 x1 x2 x3 x4 x5 s.1 s.2) FU (x6, M)
def f_X19_make (x0 x1 x2 x3 x4 : Int) (M : MM) : Option (MM) :=
  (nob 29 4 27 M).bind fun r1 =>
  nn r1.1 <| (f_X29_init r1.1 r1.2).bind fun M1 =>
  (gfr 2 1 x1 M1).bind fun v1 =>
  (lai v1 x2 M1).bind fun v2 =>
  (pfi 29 1 r1.1 v2 M1).bind fun M2 =>
  l_X19_make_23 x0 x1 x2 x3 x4 r1.1 0 M2
theorem s_X19_make_113 {g : GG} {d : Nat} (hD : 3 ≤ d) {x0 x3 x5 : Int} {M : MM} {o : AV × MM} {P : (MM) → Prop} (r0 : ∀ r : MM, P r → o = ((9, 0), r)) {z : MM} (h : j_X19_make_113 x0 x3 x5 M = some z) (hz : P z) : Sem g d YX19_make 113 [(1, x0), (9, 0), (9, 0), (0, x3), (9, 0), (1, x5), (9, 0)] [] M o := by
  delta j_X19_make_113 at h
  refine S_aload_n (i := 0) dX19_make_113 rfl rfl ?_
  refine P_gfr FLX19_11 rfl dX19_make_114 h (fun v1 h => ?_)
  refine S_iload_n (i := 3) dX19_make_117 rfl rfl ?_
  refine S_aload dX19_make_118 rfl ?_
  refine P_sar (t := 10) ⟨by decide, by decide⟩ dX19_make_120 h (fun M1 h => ?_)
  refine S_aload_n (i := 0) dX19_make_121 rfl rfl ?_
  refine S_dup dX19_make_122 (Nat.le_of_ble_eq_true rfl) ?_
  refine P_gfi FLX19_17 rfl dX19_make_123 h (fun v2 h => ?_)
  refine S_iconst dX19_make_126 rfl ?_
  refine S_iadd dX19_make_127 ?_
  refine P_pfi FLX19_17 FPX19_17 rfl dX19_make_128 h (fun M2 h => ?_)
  obtain rfl := r0 _ (some_P (P := fun r => P r) h hz)
  exact S_return dX19_make_131 rfl
theorem s_X19_make_85 {g : GG} {d : Nat} (hD : 3 ≤ d) {x0 x3 x5 x6 : Int} {M : MM} {o : AV × MM} {P : ((Int × MM) ⊕ (MM)) → Prop} (c0 : ∀ s : Int × MM, P (.inl s) → Sem g d YX19_make 85 [(1, x0), (9, 0), (9, 0), (0, x3), (9, 0), (1, x5), (0, s.1)] [] s.2 o) (r0 : ∀ r : MM, P (.inr r) → o = ((9, 0), r)) {z : (Int × MM) ⊕ (MM)} (h : b_X19_make_85 x0 x3 x5 x6 M = some z) (hz : P z) : Sem g d YX19_make 85 [(1, x0), (9, 0), (9, 0), (0, x3), (9, 0), (1, x5), (0, x6)] [] M o := by
  delta b_X19_make_85 at h
  refine S_iload dX19_make_85 rfl ?_
  refine S_iload_n (i := 3) dX19_make_87 rfl rfl ?_
  refine P_icmp_le (tgt := 113) dX19_make_88 rfl h (fun h => ?_) (fun h => ?_)
  · refine S_weak (ls' := [(1, x0), (9, 0), (9, 0), (0, x3), (9, 0), (1, x5), (9, 0)]) ⟨Or.inr rfl, ⟨Or.inl rfl, ⟨Or.inl rfl, ⟨Or.inr rfl, ⟨Or.inl rfl, ⟨Or.inr rfl, ⟨Or.inl rfl, trivial⟩⟩⟩⟩⟩⟩⟩ ?_
    obtain ⟨z0, h, hz⟩ := xit_some' (P := fun r => P r) h hz
    exact s_X19_make_113 hD (P := fun r => P (.inr r)) r0 h hz
  · refine S_aload_n (i := 0) dX19_make_91 rfl rfl ?_
    refine P_gfr FLX19_11 rfl dX19_make_92 h (fun v1 h => ?_)
    refine S_iload dX19_make_95 rfl ?_
    refine S_aload_n (i := 0) dX19_make_97 rfl rfl ?_
    refine P_gfr FLX19_11 rfl dX19_make_98 h (fun v2 h => ?_)
    refine S_iload dX19_make_101 rfl ?_
    refine S_iconst dX19_make_103 rfl ?_
    refine S_isub dX19_make_104 ?_
    refine P_lar (t := 10) ⟨by decide, by decide⟩ dX19_make_105 h (fun v3 h => ?_)
    refine P_sar (t := 10) ⟨by decide, by decide⟩ dX19_make_106 h (fun M1 h => ?_)
    refine S_iinc dX19_make_107 rfl rfl rfl ?_
    change Sem g d YX19_make 110 [(1, x0), (9, 0), (9, 0), (0, x3), (9, 0), (1, x5), (0, x6 + (-1))] [] M1 o
    refine S_goto (tgt := 85) dX19_make_110 rfl ?_
    exact c0 (x6 + (-1), M1) (some_P (P := fun r => P r) h hz)
theorem sl_X19_make_85 {g : GG} {d : Nat} (hD : 3 ≤ d) {x0 x3 x5 x6 : Int} {M : MM} {o : AV × MM} {P : (MM) → Prop} (r0 : ∀ r : MM, P r → o = ((9, 0), r)) {z : MM} (h : l_X19_make_85 x0 x3 x5 x6 M = some z) (hz : P z) : Sem g d YX19_make 85 [(1, x0), (9, 0), (9, 0), (0, x3), (9, 0), (1, x5), (0, x6)] [] M o := by
  refine lp_sound (S := fun s : Int × MM => Sem g d YX19_make 85 [(1, x0), (9, 0), (9, 0), (0, x3), (9, 0), (1, x5), (0, s.1)] [] s.2 o) (P := P) ?_ FU (x6, M) z h hz
  intro s x hx hP
  exact s_X19_make_85 hD (P := Sum.elim (fun s : Int × MM => Sem g d YX19_make 85 [(1, x0), (9, 0), (9, 0), (0, x3), (9, 0), (1, x5), (0, s.1)] [] s.2 o) P) (fun s h => h) (fun s h => r0 s h) hx hP
theorem s_X19_make_59 {g : GG} {d : Nat} (hD : 3 ≤ d) {x0 x3 x4 x5 : Int} {M : MM} {o : AV × MM} {P : (MM) → Prop} (r0 : ∀ r : MM, P r → o = ((9, 0), r)) {z : MM} (h : j_X19_make_59 x0 x3 x4 x5 M = some z) (hz : P z) : Sem g d YX19_make 59 [(1, x0), (9, 0), (9, 0), (0, x3), (1, x4), (1, x5), (9, 0)] [] M o := by
  delta j_X19_make_59 at h
  refine S_aload dX19_make_59 rfl ?_
  refine S_aload dX19_make_61 rfl ?_
  refine P_gfr FLX19_50 rfl dX19_make_63 h (fun v1 h => ?_)
  refine S_aload dX19_make_66 rfl ?_
  refine P_gfi FLX19_49 rfl dX19_make_68 h (fun v2 h => ?_)
  refine S_aload dX19_make_71 rfl ?_
  refine P_gfr FLX19_55 rfl dX19_make_73 h (fun v3 h => ?_)
  refine P_invVm' [(1, v1), (0, v2), (1, v3)] [] CVX8_of MLX19_59 dX19_make_76 rfl rfl rfl rfl (by omega) h (fun r h => F_X8_of (by omega) h) (fun M1 h => ?_)
  refine S_aload_n (i := 0) dX19_make_79 rfl rfl ?_
  refine P_gfi FLX19_17 rfl dX19_make_80 h (fun v4 h => ?_)
  refine S_istore dX19_make_83 (Nat.le_of_ble_eq_true rfl) rfl rfl ?_
  change Sem g d YX19_make 85 [(1, x0), (9, 0), (9, 0), (0, x3), (1, x4), (1, x5), (0, v4)] [] M1 o
  refine S_weak (ls' := [(1, x0), (9, 0), (9, 0), (0, x3), (9, 0), (1, x5), (0, v4)]) ⟨Or.inr rfl, ⟨Or.inl rfl, ⟨Or.inl rfl, ⟨Or.inr rfl, ⟨Or.inl rfl, ⟨Or.inr rfl, ⟨Or.inr rfl, trivial⟩⟩⟩⟩⟩⟩⟩ ?_
  exact sl_X19_make_85 hD r0 h hz
theorem s_X19_make_23 {g : GG} {d : Nat} (hD : 3 ≤ d) {x0 x1 x2 x3 x4 x5 x6 : Int} {M : MM} {o : AV × MM} {P : ((Int × MM) ⊕ (MM)) → Prop} (c0 : ∀ s : Int × MM, P (.inl s) → Sem g d YX19_make 23 [(1, x0), (1, x1), (0, x2), (0, x3), (1, x4), (1, x5), (0, s.1)] [] s.2 o) (r0 : ∀ r : MM, P (.inr r) → o = ((9, 0), r)) {z : (Int × MM) ⊕ (MM)} (h : b_X19_make_23 x0 x1 x2 x3 x4 x5 x6 M = some z) (hz : P z) : Sem g d YX19_make 23 [(1, x0), (1, x1), (0, x2), (0, x3), (1, x4), (1, x5), (0, x6)] [] M o := by
  delta b_X19_make_23 at h
  refine S_iload dX19_make_23 rfl ?_
  refine S_aload dX19_make_25 rfl ?_
  refine P_gfi FLX19_49 rfl dX19_make_27 h (fun v1 h => ?_)
  refine P_icmp_ge (tgt := 59) dX19_make_30 rfl h (fun h => ?_) (fun h => ?_)
  · refine S_weak (ls' := [(1, x0), (9, 0), (9, 0), (0, x3), (1, x4), (1, x5), (9, 0)]) ⟨Or.inr rfl, ⟨Or.inl rfl, ⟨Or.inl rfl, ⟨Or.inr rfl, ⟨Or.inr rfl, ⟨Or.inr rfl, ⟨Or.inl rfl, trivial⟩⟩⟩⟩⟩⟩⟩ ?_
    obtain ⟨z0, h, hz⟩ := xit_some' (P := fun r => P r) h hz
    exact s_X19_make_59 hD (P := fun r => P (.inr r)) r0 h hz
  · refine S_aload dX19_make_33 rfl ?_
    refine P_gfr FLX19_50 rfl dX19_make_35 h (fun v2 h => ?_)
    refine S_iload dX19_make_38 rfl ?_
    refine S_aload_n (i := 1) dX19_make_40 rfl rfl ?_
    refine P_gfr FLX19_54 rfl dX19_make_41 h (fun v3 h => ?_)
    refine S_bipush (z := 12) dX19_make_44 rfl ?_
    refine S_iload_n (i := 2) dX19_make_46 rfl rfl ?_
    refine S_imul dX19_make_47 ?_
    refine S_iload dX19_make_48 rfl ?_
    refine S_iadd dX19_make_50 ?_
    refine P_lab dX19_make_51 h (fun v4 h => ?_)
    refine P_sab dX19_make_52 h (fun M1 h => ?_)
    refine S_iinc dX19_make_53 rfl rfl rfl ?_
    change Sem g d YX19_make 56 [(1, x0), (1, x1), (0, x2), (0, x3), (1, x4), (1, x5), (0, x6 + 1)] [] M1 o
    refine S_goto (tgt := 23) dX19_make_56 rfl ?_
    exact c0 (x6 + 1, M1) (some_P (P := fun r => P r) h hz)
theorem sl_X19_make_23 {g : GG} {d : Nat} (hD : 3 ≤ d) {x0 x1 x2 x3 x4 x5 x6 : Int} {M : MM} {o : AV × MM} {P : (MM) → Prop} (r0 : ∀ r : MM, P r → o = ((9, 0), r)) {z : MM} (h : l_X19_make_23 x0 x1 x2 x3 x4 x5 x6 M = some z) (hz : P z) : Sem g d YX19_make 23 [(1, x0), (1, x1), (0, x2), (0, x3), (1, x4), (1, x5), (0, x6)] [] M o := by
  refine lp_sound (S := fun s : Int × MM => Sem g d YX19_make 23 [(1, x0), (1, x1), (0, x2), (0, x3), (1, x4), (1, x5), (0, s.1)] [] s.2 o) (P := P) ?_ FU (x6, M) z h hz
  intro s x hx hP
  exact s_X19_make_23 hD (P := Sum.elim (fun s : Int × MM => Sem g d YX19_make 23 [(1, x0), (1, x1), (0, x2), (0, x3), (1, x4), (1, x5), (0, s.1)] [] s.2 o) P) (fun s h => h) (fun s h => r0 s h) hx hP
theorem s_X19_make_0 {g : GG} {d : Nat} (hD : 3 ≤ d) {x0 x1 x2 x3 x4 : Int} {M : MM} {o : AV × MM} {P : (MM) → Prop} (r0 : ∀ r : MM, P r → o = ((9, 0), r)) {z : MM} (h : f_X19_make x0 x1 x2 x3 x4 M = some z) (hz : P z) : Sem g d YX19_make 0 [(1, x0), (1, x1), (0, x2), (0, x3), (1, x4), (9, 0), (9, 0)] [] M o := by
  delta f_X19_make at h
  refine P_nob NLX19_9 rfl dX19_make_0 h (fun r1 h => ?_)
  refine S_dup dX19_make_3 (Nat.le_of_ble_eq_true rfl) ?_
  refine P_invI' [] [(1, r1.1)] CIX29_init MLX19_45 dX19_make_4 rfl rfl rfl rfl (by omega) h (fun r h => F_X29_init (by omega) h) (fun M1 h => ?_)
  refine S_astore dX19_make_7 (Nat.le_of_ble_eq_true rfl) rfl rfl ?_
  change Sem g d YX19_make 9 [(1, x0), (1, x1), (0, x2), (0, x3), (1, x4), (1, r1.1), (9, 0)] [] M1 o
  refine S_aload dX19_make_9 rfl ?_
  refine S_aload_n (i := 1) dX19_make_11 rfl rfl ?_
  refine P_gfr FLX19_46 rfl dX19_make_12 h (fun v1 h => ?_)
  refine S_iload_n (i := 2) dX19_make_15 rfl rfl ?_
  refine P_lai dX19_make_16 h (fun v2 h => ?_)
  refine P_pfi FLX19_49 FPX19_49 rfl dX19_make_17 h (fun M2 h => ?_)
  refine S_iconst dX19_make_20 rfl ?_
  refine S_istore dX19_make_21 (Nat.le_of_ble_eq_true rfl) rfl rfl ?_
  change Sem g d YX19_make 23 [(1, x0), (1, x1), (0, x2), (0, x3), (1, x4), (1, r1.1), (0, 0)] [] M2 o
  exact sl_X19_make_23 hD r0 h hz
theorem F_X19_make {g : GG} {d : Nat} (hD : 3 ≤ d) {x0 x1 x2 x3 x4 : Int} {M : MM} {r : MM} (h : f_X19_make x0 x1 x2 x3 x4 M = some r) : Sem g d YX19_make 0 (ini YX19_make [(1, x0), (1, x1), (0, x2), (0, x3), (1, x4)]) [] M ((9, 0), r) := by
  change Sem g d YX19_make 0 [(1, x0), (1, x1), (0, x2), (0, x3), (1, x4), (9, 0), (9, 0)] [] M ((9, 0), r)
  exact s_X19_make_0 hD (P := fun x => x = r) (fun q e => by rw [e]) h rfl
/-! PeerSearch$Library.add(LPeerSearch$Cutter;LPeerSearch$Sha;)I -/
theorem dX19_add_0 : decode cX19_add 0 = .ok (.iconst 0, 1) := by decide +kernel
theorem dX19_add_1 : decode cX19_add 1 = .ok (.istore_n 3, 1) := by decide +kernel
theorem dX19_add_2 : decode cX19_add 2 = .ok (.iconst 0, 1) := by decide +kernel
theorem dX19_add_3 : decode cX19_add 3 = .ok (.istore 4, 2) := by decide +kernel
theorem dX19_add_5 : decode cX19_add 5 = .ok (.iload 4, 2) := by decide +kernel
theorem dX19_add_7 : decode cX19_add 7 = .ok (.aload_n 1, 1) := by decide +kernel
theorem dX19_add_8 : decode cX19_add 8 = .ok (.getfield 25, 3) := by decide +kernel
theorem dX19_add_11 : decode cX19_add 11 = .ok (.if_icmp .ge 27, 3) := by decide +kernel
theorem dX19_add_14 : decode cX19_add 14 = .ok (.iload_n 3, 1) := by decide +kernel
theorem dX19_add_15 : decode cX19_add 15 = .ok (.aload_n 0, 1) := by decide +kernel
theorem dX19_add_16 : decode cX19_add 16 = .ok (.aload_n 1, 1) := by decide +kernel
theorem dX19_add_17 : decode cX19_add 17 = .ok (.iload 4, 2) := by decide +kernel
theorem dX19_add_19 : decode cX19_add 19 = .ok (.invokevirtual 30, 3) := by decide +kernel
theorem dX19_add_22 : decode cX19_add 22 = .ok (.ifCond .ge 7, 3) := by decide +kernel
theorem dX19_add_25 : decode cX19_add 25 = .ok (.iconst 1, 1) := by decide +kernel
theorem dX19_add_26 : decode cX19_add 26 = .ok (.goto 4, 3) := by decide +kernel
theorem dX19_add_29 : decode cX19_add 29 = .ok (.iconst 0, 1) := by decide +kernel
theorem dX19_add_30 : decode cX19_add 30 = .ok (.iadd, 1) := by decide +kernel
theorem dX19_add_31 : decode cX19_add 31 = .ok (.istore_n 3, 1) := by decide +kernel
theorem dX19_add_32 : decode cX19_add 32 = .ok (.iinc 4 1, 3) := by decide +kernel
theorem dX19_add_35 : decode cX19_add 35 = .ok (.goto (-30), 3) := by decide +kernel
theorem dX19_add_38 : decode cX19_add 38 = .ok (.aload_n 0, 1) := by decide +kernel
theorem dX19_add_39 : decode cX19_add 39 = .ok (.getfield 33, 3) := by decide +kernel
theorem dX19_add_42 : decode cX19_add 42 = .ok (.bipush 16, 2) := by decide +kernel
theorem dX19_add_44 : decode cX19_add 44 = .ok (.if_icmp .eq 30, 3) := by decide +kernel
theorem dX19_add_47 : decode cX19_add 47 = .ok (.aload_n 1, 1) := by decide +kernel
theorem dX19_add_48 : decode cX19_add 48 = .ok (.getfield 25, 3) := by decide +kernel
theorem dX19_add_51 : decode cX19_add 51 = .ok (.ifCond .eq 23, 3) := by decide +kernel
theorem dX19_add_54 : decode cX19_add 54 = .ok (.aload_n 1, 1) := by decide +kernel
theorem dX19_add_55 : decode cX19_add 55 = .ok (.getfield 25, 3) := by decide +kernel
theorem dX19_add_58 : decode cX19_add 58 = .ok (.bipush 24, 2) := by decide +kernel
theorem dX19_add_60 : decode cX19_add 60 = .ok (.if_icmp .gt 14, 3) := by decide +kernel
theorem dX19_add_63 : decode cX19_add 63 = .ok (.aload_n 0, 1) := by decide +kernel
theorem dX19_add_64 : decode cX19_add 64 = .ok (.getfield 17, 3) := by decide +kernel
theorem dX19_add_67 : decode cX19_add 67 = .ok (.iload_n 3, 1) := by decide +kernel
theorem dX19_add_68 : decode cX19_add 68 = .ok (.iadd, 1) := by decide +kernel
theorem dX19_add_69 : decode cX19_add 69 = .ok (.bipush 64, 2) := by decide +kernel
theorem dX19_add_71 : decode cX19_add 71 = .ok (.if_icmp .le 5, 3) := by decide +kernel
theorem dX19_add_74 : decode cX19_add 74 = .ok (.iconst (-1), 1) := by decide +kernel
theorem dX19_add_75 : decode cX19_add 75 = .ok (.ireturn, 1) := by decide +kernel
theorem dX19_add_76 : decode cX19_add 76 = .ok (.iconst 0, 1) := by decide +kernel
theorem dX19_add_77 : decode cX19_add 77 = .ok (.istore 4, 2) := by decide +kernel
theorem dX19_add_79 : decode cX19_add 79 = .ok (.iload 4, 2) := by decide +kernel
theorem dX19_add_81 : decode cX19_add 81 = .ok (.aload_n 1, 1) := by decide +kernel
theorem dX19_add_82 : decode cX19_add 82 = .ok (.getfield 25, 3) := by decide +kernel
theorem dX19_add_85 : decode cX19_add 85 = .ok (.if_icmp .ge 61, 3) := by decide +kernel
theorem dX19_add_88 : decode cX19_add 88 = .ok (.aload_n 0, 1) := by decide +kernel
theorem dX19_add_89 : decode cX19_add 89 = .ok (.aload_n 1, 1) := by decide +kernel
theorem dX19_add_90 : decode cX19_add 90 = .ok (.iload 4, 2) := by decide +kernel
theorem dX19_add_92 : decode cX19_add 92 = .ok (.invokevirtual 30, 3) := by decide +kernel
theorem dX19_add_95 : decode cX19_add 95 = .ok (.istore 5, 2) := by decide +kernel
theorem dX19_add_97 : decode cX19_add 97 = .ok (.iload 5, 2) := by decide +kernel
theorem dX19_add_99 : decode cX19_add 99 = .ok (.ifCond .ge 19, 3) := by decide +kernel
theorem dX19_add_102 : decode cX19_add 102 = .ok (.iconst (-1), 1) := by decide +kernel
theorem dX19_add_103 : decode cX19_add 103 = .ok (.iload 5, 2) := by decide +kernel
theorem dX19_add_105 : decode cX19_add 105 = .ok (.isub, 1) := by decide +kernel
theorem dX19_add_106 : decode cX19_add 106 = .ok (.istore 5, 2) := by decide +kernel
theorem dX19_add_108 : decode cX19_add 108 = .ok (.aload_n 0, 1) := by decide +kernel
theorem dX19_add_109 : decode cX19_add 109 = .ok (.aload_n 1, 1) := by decide +kernel
theorem dX19_add_110 : decode cX19_add 110 = .ok (.iload 4, 2) := by decide +kernel
theorem dX19_add_112 : decode cX19_add 112 = .ok (.iload 5, 2) := by decide +kernel
theorem dX19_add_114 : decode cX19_add 114 = .ok (.aload_n 2, 1) := by decide +kernel
theorem dX19_add_115 : decode cX19_add 115 = .ok (.invokevirtual 36, 3) := by decide +kernel
theorem dX19_add_118 : decode cX19_add 118 = .ok (.aload_n 0, 1) := by decide +kernel
theorem dX19_add_119 : decode cX19_add 119 = .ok (.getfield 11, 3) := by decide +kernel
theorem dX19_add_122 : decode cX19_add 122 = .ok (.iload 5, 2) := by decide +kernel
theorem dX19_add_124 : decode cX19_add 124 = .ok (.aaload, 1) := by decide +kernel
theorem dX19_add_125 : decode cX19_add 125 = .ok (.getfield 40, 3) := by decide +kernel
theorem dX19_add_128 : decode cX19_add 128 = .ok (.aload_n 0, 1) := by decide +kernel
theorem dX19_add_129 : decode cX19_add 129 = .ok (.getfield 33, 3) := by decide +kernel
theorem dX19_add_132 : decode cX19_add 132 = .ok (.aload_n 1, 1) := by decide +kernel
theorem dX19_add_133 : decode cX19_add 133 = .ok (.getfield 44, 3) := by decide +kernel
theorem dX19_add_136 : decode cX19_add 136 = .ok (.iload 4, 2) := by decide +kernel
theorem dX19_add_138 : decode cX19_add 138 = .ok (.iaload, 1) := by decide +kernel
theorem dX19_add_139 : decode cX19_add 139 = .ok (.iastore, 1) := by decide +kernel
theorem dX19_add_140 : decode cX19_add 140 = .ok (.iinc 4 1, 3) := by decide +kernel
theorem dX19_add_143 : decode cX19_add 143 = .ok (.goto (-64), 3) := by decide +kernel
theorem dX19_add_146 : decode cX19_add 146 = .ok (.aload_n 0, 1) := by decide +kernel
theorem dX19_add_147 : decode cX19_add 147 = .ok (.dup, 1) := by decide +kernel
theorem dX19_add_148 : decode cX19_add 148 = .ok (.getfield 33, 3) := by decide +kernel
theorem dX19_add_151 : decode cX19_add 151 = .ok (.iconst 1, 1) := by decide +kernel
theorem dX19_add_152 : decode cX19_add 152 = .ok (.iadd, 1) := by decide +kernel
theorem dX19_add_153 : decode cX19_add 153 = .ok (.putfield 33, 3) := by decide +kernel
theorem dX19_add_156 : decode cX19_add 156 = .ok (.aload_n 0, 1) := by decide +kernel
theorem dX19_add_157 : decode cX19_add 157 = .ok (.getfield 33, 3) := by decide +kernel
theorem dX19_add_160 : decode cX19_add 160 = .ok (.iconst 1, 1) := by decide +kernel
theorem dX19_add_161 : decode cX19_add 161 = .ok (.isub, 1) := by decide +kernel
theorem dX19_add_162 : decode cX19_add 162 = .ok (.ireturn, 1) := by decide +kernel
def j_X19_add_146 (x0 : Int) (M : MM) : Option (Int × MM) :=
  (gfi 19 2 x0 M).bind fun v1 =>
  (pfi 19 2 x0 (v1 + 1) M).bind fun M1 =>
  (gfi 19 2 x0 M1).bind fun v2 =>
  some (v2 - 1, M1)
def j_X19_add_118 (x0 x1 x2 x4 x5 : Int) (M : MM) : Option ((Int × MM) ⊕ (Int × MM)) :=
  (gfr 19 0 x0 M).bind fun v1 =>
  (lar 10 v1 x5 M).bind fun v2 =>
  (gfr 29 3 v2 M).bind fun v3 =>
  (gfi 19 2 x0 M).bind fun v4 =>
  (gfr 2 2 x1 M).bind fun v5 =>
  (lai v5 x4 M).bind fun v6 =>
  (sai v3 v4 v6 M).bind fun M1 =>
  cnt (x4 + 1, M1)
def b_X19_add_79 (x0 x1 x2 x4 : Int) (M : MM) : Option ((Int × MM) ⊕ (Int × MM)) :=
  (gfi 2 3 x1 M).bind fun v1 =>
  if w32 x4 < w32 v1 then
    ck 19 x0 M <| (f_X19_find x0 x1 x4 M).bind fun v2 =>
    if w32 v2 < 0 then
      ck 19 x0 M <| (f_X19_make x0 x1 x4 ((-1) - v2) x2 M).bind fun M1 =>
      j_X19_add_118 x0 x1 x2 x4 ((-1) - v2) M1
    else
      j_X19_add_118 x0 x1 x2 x4 v2 M
  else
    xit (j_X19_add_146 x0 M)
def l_X19_add_79 (x0 x1 x2 x4 : Int) (M : MM) : Option (Int × MM) := lpN (fun s : Int × MM => b_X19_add_79 x0 x1 x2 s.1 s.2) FU (x4, M)
def j_X19_add_74 (M : MM) : Option (Int × MM) :=
  some ((-1), M)
def j_X19_add_38 (x0 x1 x2 x3 : Int) (M : MM) : Option (Int × MM) :=
  (gfi 19 2 x0 M).bind fun v1 =>
  if w32 v1 = w32 16 then
    j_X19_add_74 M
  else
    (gfi 2 3 x1 M).bind fun v2 =>
    if w32 v2 = 0 then
      j_X19_add_74 M
    else
      (gfi 2 3 x1 M).bind fun v3 =>
      if w32 24 < w32 v3 then
        j_X19_add_74 M
      else
        (gfi 19 1 x0 M).bind fun v4 =>
        if w32 64 < w32 (v4 + x3) then
          j_X19_add_74 M
        else
          l_X19_add_79 x0 x1 x2 0 M
def j_X19_add_30 (x0 x1 x2 x4 y0 y1 : Int) (M : MM) : Option ((Int × Int) ⊕ (Int × MM)) :=
  cnt (y0 + y1, x4 + 1)
def b_X19_add_5 (x0 x1 x2 x3 x4 : Int) (M : MM) : Option ((Int × Int) ⊕ (Int × MM)) :=
  (gfi 2 3 x1 M).bind fun v1 =>
  if w32 x4 < w32 v1 then
    ck 19 x0 M <| (f_X19_find x0 x1 x4 M).bind fun v2 =>
    if w32 v2 < 0 then
      j_X19_add_30 x0 x1 x2 x4 x3 1 M
    else
      j_X19_add_30 x0 x1 x2 x4 x3 0 M
  else
    xit (j_X19_add_38 x0 x1 x2 x3 M)
def l_X19_add_5 (x0 x1 x2 x3 x4 : Int) (M : MM) : Option (Int × MM) := lpN (fun s : Int × Int => b_X19_add_5 x0 x1 x2 s.1 s.2 M) FU (x3, x4)
def f_X19_add (x0 x1 x2 : Int) (M : MM) : Option (Int × MM) :=
  l_X19_add_5 x0 x1 x2 0 0 M
theorem s_X19_add_146 {g : GG} {d : Nat} (hD : 4 ≤ d) {x0 : Int} {M : MM} {o : AV × MM} {P : (Int × MM) → Prop} (r0 : ∀ r : Int × MM, P r → o = ((0, r.1), r.2)) {z : Int × MM} (h : j_X19_add_146 x0 M = some z) (hz : P z) : Sem g d YX19_add 146 [(1, x0), (9, 0), (9, 0), (9, 0), (9, 0), (9, 0)] [] M o := by
  delta j_X19_add_146 at h
  refine S_aload_n (i := 0) dX19_add_146 rfl rfl ?_
  refine S_dup dX19_add_147 (Nat.le_of_ble_eq_true rfl) ?_
  refine P_gfi FLX19_33 rfl dX19_add_148 h (fun v1 h => ?_)
  refine S_iconst dX19_add_151 rfl ?_
  refine S_iadd dX19_add_152 ?_
  refine P_pfi FLX19_33 FPX19_33 rfl dX19_add_153 h (fun M1 h => ?_)
  refine S_aload_n (i := 0) dX19_add_156 rfl rfl ?_
  refine P_gfi FLX19_33 rfl dX19_add_157 h (fun v2 h => ?_)
  refine S_iconst dX19_add_160 rfl ?_
  refine S_isub dX19_add_161 ?_
  obtain rfl := r0 _ (some_P (P := fun r => P r) h hz)
  exact P_ret dX19_add_162 rfl (Or.inl rfl)
theorem s_X19_add_118 {g : GG} {d : Nat} (hD : 4 ≤ d) {x0 x1 x2 x4 x5 : Int} {M : MM} {o : AV × MM} {P : ((Int × MM) ⊕ (Int × MM)) → Prop} (c0 : ∀ s : Int × MM, P (.inl s) → Sem g d YX19_add 79 [(1, x0), (1, x1), (1, x2), (9, 0), (0, s.1), (9, 0)] [] s.2 o) (r0 : ∀ r : Int × MM, P (.inr r) → o = ((0, r.1), r.2)) {z : (Int × MM) ⊕ (Int × MM)} (h : j_X19_add_118 x0 x1 x2 x4 x5 M = some z) (hz : P z) : Sem g d YX19_add 118 [(1, x0), (1, x1), (1, x2), (9, 0), (0, x4), (0, x5)] [] M o := by
  delta j_X19_add_118 at h
  refine S_aload_n (i := 0) dX19_add_118 rfl rfl ?_
  refine P_gfr FLX19_11 rfl dX19_add_119 h (fun v1 h => ?_)
  refine S_iload dX19_add_122 rfl ?_
  refine P_lar (t := 10) ⟨by decide, by decide⟩ dX19_add_124 h (fun v2 h => ?_)
  refine P_gfr FLX19_40 rfl dX19_add_125 h (fun v3 h => ?_)
  refine S_aload_n (i := 0) dX19_add_128 rfl rfl ?_
  refine P_gfi FLX19_33 rfl dX19_add_129 h (fun v4 h => ?_)
  refine S_aload_n (i := 1) dX19_add_132 rfl rfl ?_
  refine P_gfr FLX19_44 rfl dX19_add_133 h (fun v5 h => ?_)
  refine S_iload dX19_add_136 rfl ?_
  refine P_lai dX19_add_138 h (fun v6 h => ?_)
  refine P_sai dX19_add_139 h (fun M1 h => ?_)
  refine S_iinc dX19_add_140 rfl rfl rfl ?_
  change Sem g d YX19_add 143 [(1, x0), (1, x1), (1, x2), (9, 0), (0, x4 + 1), (0, x5)] [] M1 o
  refine S_goto (tgt := 79) dX19_add_143 rfl ?_
  refine S_weak (ls' := [(1, x0), (1, x1), (1, x2), (9, 0), (0, x4 + 1), (9, 0)]) ⟨Or.inr rfl, ⟨Or.inr rfl, ⟨Or.inr rfl, ⟨Or.inl rfl, ⟨Or.inr rfl, ⟨Or.inl rfl, trivial⟩⟩⟩⟩⟩⟩ ?_
  exact c0 (x4 + 1, M1) (some_P (P := fun r => P r) h hz)
theorem s_X19_add_79 {g : GG} {d : Nat} (hD : 4 ≤ d) {x0 x1 x2 x4 : Int} {M : MM} {o : AV × MM} {P : ((Int × MM) ⊕ (Int × MM)) → Prop} (c0 : ∀ s : Int × MM, P (.inl s) → Sem g d YX19_add 79 [(1, x0), (1, x1), (1, x2), (9, 0), (0, s.1), (9, 0)] [] s.2 o) (r0 : ∀ r : Int × MM, P (.inr r) → o = ((0, r.1), r.2)) {z : (Int × MM) ⊕ (Int × MM)} (h : b_X19_add_79 x0 x1 x2 x4 M = some z) (hz : P z) : Sem g d YX19_add 79 [(1, x0), (1, x1), (1, x2), (9, 0), (0, x4), (9, 0)] [] M o := by
  delta b_X19_add_79 at h
  refine S_iload dX19_add_79 rfl ?_
  refine S_aload_n (i := 1) dX19_add_81 rfl rfl ?_
  refine P_gfi FLX19_25 rfl dX19_add_82 h (fun v1 h => ?_)
  refine P_icmp_ge (tgt := 146) dX19_add_85 rfl h (fun h => ?_) (fun h => ?_)
  · refine S_weak (ls' := [(1, x0), (9, 0), (9, 0), (9, 0), (9, 0), (9, 0)]) ⟨Or.inr rfl, ⟨Or.inl rfl, ⟨Or.inl rfl, ⟨Or.inl rfl, ⟨Or.inl rfl, ⟨Or.inl rfl, trivial⟩⟩⟩⟩⟩⟩ ?_
    obtain ⟨z0, h, hz⟩ := xit_some' (P := fun r => P r) h hz
    exact s_X19_add_146 hD (P := fun r => P (.inr r)) r0 h hz
  · refine S_aload_n (i := 0) dX19_add_88 rfl rfl ?_
    refine S_aload_n (i := 1) dX19_add_89 rfl rfl ?_
    refine S_iload dX19_add_90 rfl ?_
    refine P_invVp 0 [(1, x1), (0, x4)] [] CVX19_find MLX19_30 dX19_add_92 rfl rfl rfl rfl rfl (by omega) h (fun r h => F_X19_find (by omega) h) (fun v2 h => ?_)
    refine S_istore dX19_add_95 (Nat.le_of_ble_eq_true rfl) rfl rfl ?_
    change Sem g d YX19_add 97 [(1, x0), (1, x1), (1, x2), (9, 0), (0, x4), (0, v2)] [] M o
    refine S_iload dX19_add_97 rfl ?_
    refine P_if_ge (tgt := 118) dX19_add_99 rfl h (fun h => ?_) (fun h => ?_)
    · exact s_X19_add_118 hD c0 r0 h hz
    · refine S_iconst dX19_add_102 rfl ?_
      refine S_iload dX19_add_103 rfl ?_
      refine S_isub dX19_add_105 ?_
      refine S_istore dX19_add_106 (Nat.le_of_ble_eq_true rfl) rfl rfl ?_
      change Sem g d YX19_add 108 [(1, x0), (1, x1), (1, x2), (9, 0), (0, x4), (0, (-1) - v2)] [] M o
      refine S_aload_n (i := 0) dX19_add_108 rfl rfl ?_
      refine S_aload_n (i := 1) dX19_add_109 rfl rfl ?_
      refine S_iload dX19_add_110 rfl ?_
      refine S_iload dX19_add_112 rfl ?_
      refine S_aload_n (i := 2) dX19_add_114 rfl rfl ?_
      refine P_invVm' [(1, x1), (0, x4), (0, (-1) - v2), (1, x2)] [] CVX19_make MLX19_36 dX19_add_115 rfl rfl rfl rfl (by omega) h (fun r h => F_X19_make (by omega) h) (fun M1 h => ?_)
      exact s_X19_add_118 hD c0 r0 h hz
theorem sl_X19_add_79 {g : GG} {d : Nat} (hD : 4 ≤ d) {x0 x1 x2 x4 : Int} {M : MM} {o : AV × MM} {P : (Int × MM) → Prop} (r0 : ∀ r : Int × MM, P r → o = ((0, r.1), r.2)) {z : Int × MM} (h : l_X19_add_79 x0 x1 x2 x4 M = some z) (hz : P z) : Sem g d YX19_add 79 [(1, x0), (1, x1), (1, x2), (9, 0), (0, x4), (9, 0)] [] M o := by
  refine lp_sound (S := fun s : Int × MM => Sem g d YX19_add 79 [(1, x0), (1, x1), (1, x2), (9, 0), (0, s.1), (9, 0)] [] s.2 o) (P := P) ?_ FU (x4, M) z h hz
  intro s x hx hP
  exact s_X19_add_79 hD (P := Sum.elim (fun s : Int × MM => Sem g d YX19_add 79 [(1, x0), (1, x1), (1, x2), (9, 0), (0, s.1), (9, 0)] [] s.2 o) P) (fun s h => h) (fun s h => r0 s h) hx hP
theorem s_X19_add_74 {g : GG} {d : Nat} (hD : 4 ≤ d) {M : MM} {o : AV × MM} {P : (Int × MM) → Prop} (r0 : ∀ r : Int × MM, P r → o = ((0, r.1), r.2)) {z : Int × MM} (h : j_X19_add_74 M = some z) (hz : P z) : Sem g d YX19_add 74 [(9, 0), (9, 0), (9, 0), (9, 0), (9, 0), (9, 0)] [] M o := by
  delta j_X19_add_74 at h
  refine S_iconst dX19_add_74 rfl ?_
  obtain rfl := r0 _ (some_P (P := fun r => P r) h hz)
  exact P_ret dX19_add_75 rfl (Or.inl rfl)
theorem s_X19_add_38 {g : GG} {d : Nat} (hD : 4 ≤ d) {x0 x1 x2 x3 : Int} {M : MM} {o : AV × MM} {P : (Int × MM) → Prop} (r0 : ∀ r : Int × MM, P r → o = ((0, r.1), r.2)) {z : Int × MM} (h : j_X19_add_38 x0 x1 x2 x3 M = some z) (hz : P z) : Sem g d YX19_add 38 [(1, x0), (1, x1), (1, x2), (0, x3), (9, 0), (9, 0)] [] M o := by
  delta j_X19_add_38 at h
  refine S_aload_n (i := 0) dX19_add_38 rfl rfl ?_
  refine P_gfi FLX19_33 rfl dX19_add_39 h (fun v1 h => ?_)
  refine S_bipush (z := 16) dX19_add_42 rfl ?_
  refine P_icmp_eq (tgt := 74) dX19_add_44 rfl h (fun h => ?_) (fun h => ?_)
  · refine S_weak (ls' := [(9, 0), (9, 0), (9, 0), (9, 0), (9, 0), (9, 0)]) ⟨Or.inl rfl, ⟨Or.inl rfl, ⟨Or.inl rfl, ⟨Or.inl rfl, ⟨Or.inl rfl, ⟨Or.inl rfl, trivial⟩⟩⟩⟩⟩⟩ ?_
    exact s_X19_add_74 hD r0 h hz
  · refine S_aload_n (i := 1) dX19_add_47 rfl rfl ?_
    refine P_gfi FLX19_25 rfl dX19_add_48 h (fun v2 h => ?_)
    refine P_if_eq (tgt := 74) dX19_add_51 rfl h (fun h => ?_) (fun h => ?_)
    · refine S_weak (ls' := [(9, 0), (9, 0), (9, 0), (9, 0), (9, 0), (9, 0)]) ⟨Or.inl rfl, ⟨Or.inl rfl, ⟨Or.inl rfl, ⟨Or.inl rfl, ⟨Or.inl rfl, ⟨Or.inl rfl, trivial⟩⟩⟩⟩⟩⟩ ?_
      exact s_X19_add_74 hD r0 h hz
    · refine S_aload_n (i := 1) dX19_add_54 rfl rfl ?_
      refine P_gfi FLX19_25 rfl dX19_add_55 h (fun v3 h => ?_)
      refine S_bipush (z := 24) dX19_add_58 rfl ?_
      refine P_icmp_gt (tgt := 74) dX19_add_60 rfl h (fun h => ?_) (fun h => ?_)
      · refine S_weak (ls' := [(9, 0), (9, 0), (9, 0), (9, 0), (9, 0), (9, 0)]) ⟨Or.inl rfl, ⟨Or.inl rfl, ⟨Or.inl rfl, ⟨Or.inl rfl, ⟨Or.inl rfl, ⟨Or.inl rfl, trivial⟩⟩⟩⟩⟩⟩ ?_
        exact s_X19_add_74 hD r0 h hz
      · refine S_aload_n (i := 0) dX19_add_63 rfl rfl ?_
        refine P_gfi FLX19_17 rfl dX19_add_64 h (fun v4 h => ?_)
        refine S_iload_n (i := 3) dX19_add_67 rfl rfl ?_
        refine S_iadd dX19_add_68 ?_
        refine S_bipush (z := 64) dX19_add_69 rfl ?_
        refine P_icmp_le (tgt := 76) dX19_add_71 rfl h (fun h => ?_) (fun h => ?_)
        · refine S_iconst dX19_add_76 rfl ?_
          refine S_istore dX19_add_77 (Nat.le_of_ble_eq_true rfl) rfl rfl ?_
          change Sem g d YX19_add 79 [(1, x0), (1, x1), (1, x2), (0, x3), (0, 0), (9, 0)] [] M o
          refine S_weak (ls' := [(1, x0), (1, x1), (1, x2), (9, 0), (0, 0), (9, 0)]) ⟨Or.inr rfl, ⟨Or.inr rfl, ⟨Or.inr rfl, ⟨Or.inl rfl, ⟨Or.inr rfl, ⟨Or.inl rfl, trivial⟩⟩⟩⟩⟩⟩ ?_
          exact sl_X19_add_79 hD r0 h hz
        · refine S_weak (ls' := [(9, 0), (9, 0), (9, 0), (9, 0), (9, 0), (9, 0)]) ⟨Or.inl rfl, ⟨Or.inl rfl, ⟨Or.inl rfl, ⟨Or.inl rfl, ⟨Or.inl rfl, ⟨Or.inl rfl, trivial⟩⟩⟩⟩⟩⟩ ?_
          exact s_X19_add_74 hD r0 h hz
theorem s_X19_add_30 {g : GG} {d : Nat} (hD : 4 ≤ d) {x0 x1 x2 x4 y0 y1 : Int} {M : MM} {o : AV × MM} {P : ((Int × Int) ⊕ (Int × MM)) → Prop} (c0 : ∀ s : Int × Int, P (.inl s) → Sem g d YX19_add 5 [(1, x0), (1, x1), (1, x2), (0, s.1), (0, s.2), (9, 0)] [] M o) (r0 : ∀ r : Int × MM, P (.inr r) → o = ((0, r.1), r.2)) {z : (Int × Int) ⊕ (Int × MM)} (h : j_X19_add_30 x0 x1 x2 x4 y0 y1 M = some z) (hz : P z) : Sem g d YX19_add 30 [(1, x0), (1, x1), (1, x2), (9, 0), (0, x4), (9, 0)] [(0, y1), (0, y0)] M o := by
  delta j_X19_add_30 at h
  refine S_iadd dX19_add_30 ?_
  refine S_istore_n (i := 3) dX19_add_31 rfl (Nat.le_of_ble_eq_true rfl) rfl rfl ?_
  change Sem g d YX19_add 32 [(1, x0), (1, x1), (1, x2), (0, y0 + y1), (0, x4), (9, 0)] [] M o
  refine S_iinc dX19_add_32 rfl rfl rfl ?_
  change Sem g d YX19_add 35 [(1, x0), (1, x1), (1, x2), (0, y0 + y1), (0, x4 + 1), (9, 0)] [] M o
  refine S_goto (tgt := 5) dX19_add_35 rfl ?_
  exact c0 (y0 + y1, x4 + 1) (some_P (P := fun r => P r) h hz)
theorem s_X19_add_5 {g : GG} {d : Nat} (hD : 4 ≤ d) {x0 x1 x2 x3 x4 : Int} {M : MM} {o : AV × MM} {P : ((Int × Int) ⊕ (Int × MM)) → Prop} (c0 : ∀ s : Int × Int, P (.inl s) → Sem g d YX19_add 5 [(1, x0), (1, x1), (1, x2), (0, s.1), (0, s.2), (9, 0)] [] M o) (r0 : ∀ r : Int × MM, P (.inr r) → o = ((0, r.1), r.2)) {z : (Int × Int) ⊕ (Int × MM)} (h : b_X19_add_5 x0 x1 x2 x3 x4 M = some z) (hz : P z) : Sem g d YX19_add 5 [(1, x0), (1, x1), (1, x2), (0, x3), (0, x4), (9, 0)] [] M o := by
  delta b_X19_add_5 at h
  refine S_iload dX19_add_5 rfl ?_
  refine S_aload_n (i := 1) dX19_add_7 rfl rfl ?_
  refine P_gfi FLX19_25 rfl dX19_add_8 h (fun v1 h => ?_)
  refine P_icmp_ge (tgt := 38) dX19_add_11 rfl h (fun h => ?_) (fun h => ?_)
  · refine S_weak (ls' := [(1, x0), (1, x1), (1, x2), (0, x3), (9, 0), (9, 0)]) ⟨Or.inr rfl, ⟨Or.inr rfl, ⟨Or.inr rfl, ⟨Or.inr rfl, ⟨Or.inl rfl, ⟨Or.inl rfl, trivial⟩⟩⟩⟩⟩⟩ ?_
    obtain ⟨z0, h, hz⟩ := xit_some' (P := fun r => P r) h hz
    exact s_X19_add_38 hD (P := fun r => P (.inr r)) r0 h hz
  · refine S_iload_n (i := 3) dX19_add_14 rfl rfl ?_
    refine S_aload_n (i := 0) dX19_add_15 rfl rfl ?_
    refine S_aload_n (i := 1) dX19_add_16 rfl rfl ?_
    refine S_iload dX19_add_17 rfl ?_
    refine P_invVp 0 [(1, x1), (0, x4)] [(0, x3)] CVX19_find MLX19_30 dX19_add_19 rfl rfl rfl rfl rfl (by omega) h (fun r h => F_X19_find (by omega) h) (fun v2 h => ?_)
    refine P_if_ge (tgt := 29) dX19_add_22 rfl h (fun h => ?_) (fun h => ?_)
    · refine S_iconst dX19_add_29 rfl ?_
      refine S_weak (ls' := [(1, x0), (1, x1), (1, x2), (9, 0), (0, x4), (9, 0)]) ⟨Or.inr rfl, ⟨Or.inr rfl, ⟨Or.inr rfl, ⟨Or.inl rfl, ⟨Or.inr rfl, ⟨Or.inl rfl, trivial⟩⟩⟩⟩⟩⟩ ?_
      exact s_X19_add_30 hD c0 r0 h hz
    · refine S_iconst dX19_add_25 rfl ?_
      refine S_goto (tgt := 30) dX19_add_26 rfl ?_
      refine S_weak (ls' := [(1, x0), (1, x1), (1, x2), (9, 0), (0, x4), (9, 0)]) ⟨Or.inr rfl, ⟨Or.inr rfl, ⟨Or.inr rfl, ⟨Or.inl rfl, ⟨Or.inr rfl, ⟨Or.inl rfl, trivial⟩⟩⟩⟩⟩⟩ ?_
      exact s_X19_add_30 hD c0 r0 h hz
theorem sl_X19_add_5 {g : GG} {d : Nat} (hD : 4 ≤ d) {x0 x1 x2 x3 x4 : Int} {M : MM} {o : AV × MM} {P : (Int × MM) → Prop} (r0 : ∀ r : Int × MM, P r → o = ((0, r.1), r.2)) {z : Int × MM} (h : l_X19_add_5 x0 x1 x2 x3 x4 M = some z) (hz : P z) : Sem g d YX19_add 5 [(1, x0), (1, x1), (1, x2), (0, x3), (0, x4), (9, 0)] [] M o := by
  refine lp_sound (S := fun s : Int × Int => Sem g d YX19_add 5 [(1, x0), (1, x1), (1, x2), (0, s.1), (0, s.2), (9, 0)] [] M o) (P := P) ?_ FU (x3, x4) z h hz
  intro s x hx hP
  exact s_X19_add_5 hD (P := Sum.elim (fun s : Int × Int => Sem g d YX19_add 5 [(1, x0), (1, x1), (1, x2), (0, s.1), (0, s.2), (9, 0)] [] M o) P) (fun s h => h) (fun s h => r0 s h) hx hP
theorem s_X19_add_0 {g : GG} {d : Nat} (hD : 4 ≤ d) {x0 x1 x2 : Int} {M : MM} {o : AV × MM} {P : (Int × MM) → Prop} (r0 : ∀ r : Int × MM, P r → o = ((0, r.1), r.2)) {z : Int × MM} (h : f_X19_add x0 x1 x2 M = some z) (hz : P z) : Sem g d YX19_add 0 [(1, x0), (1, x1), (1, x2), (9, 0), (9, 0), (9, 0)] [] M o := by
  delta f_X19_add at h
  refine S_iconst dX19_add_0 rfl ?_
  refine S_istore_n (i := 3) dX19_add_1 rfl (Nat.le_of_ble_eq_true rfl) rfl rfl ?_
  change Sem g d YX19_add 2 [(1, x0), (1, x1), (1, x2), (0, 0), (9, 0), (9, 0)] [] M o
  refine S_iconst dX19_add_2 rfl ?_
  refine S_istore dX19_add_3 (Nat.le_of_ble_eq_true rfl) rfl rfl ?_
  change Sem g d YX19_add 5 [(1, x0), (1, x1), (1, x2), (0, 0), (0, 0), (9, 0)] [] M o
  exact sl_X19_add_5 hD r0 h hz
theorem F_X19_add {g : GG} {d : Nat} (hD : 4 ≤ d) {x0 x1 x2 : Int} {M : MM} {r : Int × MM} (h : f_X19_add x0 x1 x2 M = some r) : Sem g d YX19_add 0 (ini YX19_add [(1, x0), (1, x1), (1, x2)]) [] M ((0, r.1), r.2) := by
  change Sem g d YX19_add 0 [(1, x0), (1, x1), (1, x2), (9, 0), (9, 0), (9, 0)] [] M ((0, r.1), r.2)
  exact s_X19_add_0 hD (P := fun x => x = r) (fun q e => by rw [e]) h rfl
/-! PeerSearch.document(I)I -/
theorem dX1_document_0 : decode cX1_document 0 = .ok (.aload_n 0, 1) := by decide +kernel
theorem dX1_document_1 : decode cX1_document 1 = .ok (.invokevirtual 123, 3) := by decide +kernel
theorem dX1_document_4 : decode cX1_document 4 = .ok (.istore_n 2, 1) := by decide +kernel
theorem dX1_document_5 : decode cX1_document 5 = .ok (.aload_n 0, 1) := by decide +kernel
theorem dX1_document_6 : decode cX1_document 6 = .ok (.iload_n 1, 1) := by decide +kernel
theorem dX1_document_7 : decode cX1_document 7 = .ok (.invokevirtual 113, 3) := by decide +kernel
theorem dX1_document_10 : decode cX1_document 10 = .ok (.ifCond .ne 5, 3) := by decide +kernel
theorem dX1_document_13 : decode cX1_document 13 = .ok (.iconst (-1), 1) := by decide +kernel
theorem dX1_document_14 : decode cX1_document 14 = .ok (.ireturn, 1) := by decide +kernel
theorem dX1_document_15 : decode cX1_document 15 = .ok (.aload_n 0, 1) := by decide +kernel
theorem dX1_document_16 : decode cX1_document 16 = .ok (.getfield 34, 3) := by decide +kernel
theorem dX1_document_19 : decode cX1_document 19 = .ok (.aload_n 0, 1) := by decide +kernel
theorem dX1_document_20 : decode cX1_document 20 = .ok (.getfield 13, 3) := by decide +kernel
theorem dX1_document_23 : decode cX1_document 23 = .ok (.iload_n 2, 1) := by decide +kernel
theorem dX1_document_24 : decode cX1_document 24 = .ok (.invokevirtual 228, 3) := by decide +kernel
theorem dX1_document_27 : decode cX1_document 27 = .ok (.aload_n 0, 1) := by decide +kernel
theorem dX1_document_28 : decode cX1_document 28 = .ok (.getfield 70, 3) := by decide +kernel
theorem dX1_document_31 : decode cX1_document 31 = .ok (.getfield 114, 3) := by decide +kernel
theorem dX1_document_34 : decode cX1_document 34 = .ok (.iload_n 1, 1) := by decide +kernel
theorem dX1_document_35 : decode cX1_document 35 = .ok (.aaload, 1) := by decide +kernel
theorem dX1_document_36 : decode cX1_document 36 = .ok (.getfield 232, 3) := by decide +kernel
theorem dX1_document_39 : decode cX1_document 39 = .ok (.aload_n 0, 1) := by decide +kernel
theorem dX1_document_40 : decode cX1_document 40 = .ok (.getfield 34, 3) := by decide +kernel
theorem dX1_document_43 : decode cX1_document 43 = .ok (.aload_n 0, 1) := by decide +kernel
theorem dX1_document_44 : decode cX1_document 44 = .ok (.getfield 70, 3) := by decide +kernel
theorem dX1_document_47 : decode cX1_document 47 = .ok (.getfield 95, 3) := by decide +kernel
theorem dX1_document_50 : decode cX1_document 50 = .ok (.invokevirtual 236, 3) := by decide +kernel
theorem dX1_document_53 : decode cX1_document 53 = .ok (.ireturn, 1) := by decide +kernel
def f_X1_document (x0 x1 : Int) (M : MM) : Option (Int × MM) :=
  ck 1 x0 M <| (f_X1_take x0 M).bind fun r1 =>
  ck 1 x0 r1.2 <| (f_X1_has x0 x1 r1.2).bind fun v1 =>
  if w32 v1 = 0 then
    some ((-1), r1.2)
  else
    (gfr 1 9 x0 r1.2).bind fun v2 =>
    (gfr 1 3 x0 r1.2).bind fun v3 =>
    ck 2 v2 r1.2 <| (f_X2_cut v2 v3 r1.1 r1.2).bind fun M1 =>
    (gfr 1 0 x0 M1).bind fun v4 =>
    (gfr 6 5 v4 M1).bind fun v5 =>
    (lar 7 v5 x1 M1).bind fun v6 =>
    (gfr 17 7 v6 M1).bind fun v7 =>
    (gfr 1 9 x0 M1).bind fun v8 =>
    (gfr 1 0 x0 M1).bind fun v9 =>
    (gfr 6 3 v9 M1).bind fun v10 =>
    ck 19 v7 M1 <| (f_X19_add v7 v8 v10 M1).bind fun r2 =>
    some (r2.1, r2.2)
theorem s_X1_document_0 {g : GG} {d : Nat} (hD : 5 ≤ d) {x0 x1 : Int} {M : MM} {o : AV × MM} {P : (Int × MM) → Prop} (r0 : ∀ r : Int × MM, P r → o = ((0, r.1), r.2)) {z : Int × MM} (h : f_X1_document x0 x1 M = some z) (hz : P z) : Sem g d YX1_document 0 [(1, x0), (0, x1), (9, 0)] [] M o := by
  delta f_X1_document at h
  refine S_aload_n (i := 0) dX1_document_0 rfl rfl ?_
  refine P_invVe 0 [] [] CVX1_take MLX1_123 dX1_document_1 rfl rfl rfl rfl rfl (by omega) h (fun r h => F_X1_take (by omega) h) (fun r1 h => ?_)
  refine S_istore_n (i := 2) dX1_document_4 rfl (Nat.le_of_ble_eq_true rfl) rfl rfl ?_
  change Sem g d YX1_document 5 [(1, x0), (0, x1), (0, r1.1)] [] r1.2 o
  refine S_aload_n (i := 0) dX1_document_5 rfl rfl ?_
  refine S_iload_n (i := 1) dX1_document_6 rfl rfl ?_
  refine P_invVp 0 [(0, x1)] [] CVX1_has MLX1_113 dX1_document_7 rfl rfl rfl rfl rfl (by omega) h (fun r h => F_X1_has (by omega) h) (fun v1 h => ?_)
  refine P_if_ne (tgt := 15) dX1_document_10 rfl h (fun h => ?_) (fun h => ?_)
  · refine S_aload_n (i := 0) dX1_document_15 rfl rfl ?_
    refine P_gfr FLX1_34 rfl dX1_document_16 h (fun v2 h => ?_)
    refine S_aload_n (i := 0) dX1_document_19 rfl rfl ?_
    refine P_gfr FLX1_13 rfl dX1_document_20 h (fun v3 h => ?_)
    refine S_iload_n (i := 2) dX1_document_23 rfl rfl ?_
    refine P_invVm' [(1, v3), (0, r1.1)] [] CVX2_cut MLX1_228 dX1_document_24 rfl rfl rfl rfl (by omega) h (fun r h => F_X2_cut (by omega) h) (fun M1 h => ?_)
    refine S_aload_n (i := 0) dX1_document_27 rfl rfl ?_
    refine P_gfr FLX1_70 rfl dX1_document_28 h (fun v4 h => ?_)
    refine P_gfr FLX1_114 rfl dX1_document_31 h (fun v5 h => ?_)
    refine S_iload_n (i := 1) dX1_document_34 rfl rfl ?_
    refine P_lar (t := 7) ⟨by decide, by decide⟩ dX1_document_35 h (fun v6 h => ?_)
    refine P_gfr FLX1_232 rfl dX1_document_36 h (fun v7 h => ?_)
    refine S_aload_n (i := 0) dX1_document_39 rfl rfl ?_
    refine P_gfr FLX1_34 rfl dX1_document_40 h (fun v8 h => ?_)
    refine S_aload_n (i := 0) dX1_document_43 rfl rfl ?_
    refine P_gfr FLX1_70 rfl dX1_document_44 h (fun v9 h => ?_)
    refine P_gfr FLX1_95 rfl dX1_document_47 h (fun v10 h => ?_)
    refine P_invVe 0 [(1, v8), (1, v10)] [] CVX19_add MLX1_236 dX1_document_50 rfl rfl rfl rfl rfl (by omega) h (fun r h => F_X19_add (by omega) h) (fun r2 h => ?_)
    obtain rfl := r0 _ (some_P (P := fun r => P r) h hz)
    exact P_ret dX1_document_53 rfl (Or.inl rfl)
  · refine S_iconst dX1_document_13 rfl ?_
    obtain rfl := r0 _ (some_P (P := fun r => P r) h hz)
    exact P_ret dX1_document_14 rfl (Or.inl rfl)
theorem F_X1_document {g : GG} {d : Nat} (hD : 5 ≤ d) {x0 x1 : Int} {M : MM} {r : Int × MM} (h : f_X1_document x0 x1 M = some r) : Sem g d YX1_document 0 (ini YX1_document [(1, x0), (0, x1)]) [] M ((0, r.1), r.2) := by
  change Sem g d YX1_document 0 [(1, x0), (0, x1), (9, 0)] [] M ((0, r.1), r.2)
  exact s_X1_document_0 hD (P := fun x => x = r) (fun q e => by rw [e]) h rfl
/-! PeerSearch.end(I)I -/
theorem dX1_end_0 : decode cX1_end 0 = .ok (.iload_n 1, 1) := by decide +kernel
theorem dX1_end_1 : decode cX1_end 1 = .ok (.ifCond .lt 21, 3) := by decide +kernel
theorem dX1_end_4 : decode cX1_end 4 = .ok (.iload_n 1, 1) := by decide +kernel
theorem dX1_end_5 : decode cX1_end 5 = .ok (.bipush 20, 2) := by decide +kernel
theorem dX1_end_7 : decode cX1_end 7 = .ok (.if_icmp .gt 15, 3) := by decide +kernel
theorem dX1_end_10 : decode cX1_end 10 = .ok (.aload_n 0, 1) := by decide +kernel
theorem dX1_end_11 : decode cX1_end 11 = .ok (.getfield 91, 3) := by decide +kernel
theorem dX1_end_14 : decode cX1_end 14 = .ok (.iload_n 1, 1) := by decide +kernel
theorem dX1_end_15 : decode cX1_end 15 = .ok (.iadd, 1) := by decide +kernel
theorem dX1_end_16 : decode cX1_end 16 = .ok (.sipush 500, 3) := by decide +kernel
theorem dX1_end_19 : decode cX1_end 19 = .ok (.if_icmp .le 5, 3) := by decide +kernel
theorem dX1_end_22 : decode cX1_end 22 = .ok (.iconst (-1), 1) := by decide +kernel
theorem dX1_end_23 : decode cX1_end 23 = .ok (.ireturn, 1) := by decide +kernel
theorem dX1_end_24 : decode cX1_end 24 = .ok (.iconst 0, 1) := by decide +kernel
theorem dX1_end_25 : decode cX1_end 25 = .ok (.istore_n 2, 1) := by decide +kernel
theorem dX1_end_26 : decode cX1_end 26 = .ok (.iload_n 2, 1) := by decide +kernel
theorem dX1_end_27 : decode cX1_end 27 = .ok (.iload_n 1, 1) := by decide +kernel
theorem dX1_end_28 : decode cX1_end 28 = .ok (.if_icmp .ge 26, 3) := by decide +kernel
theorem dX1_end_31 : decode cX1_end 31 = .ok (.aload_n 0, 1) := by decide +kernel
theorem dX1_end_32 : decode cX1_end 32 = .ok (.getfield 13, 3) := by decide +kernel
theorem dX1_end_35 : decode cX1_end 35 = .ok (.aload_n 0, 1) := by decide +kernel
theorem dX1_end_36 : decode cX1_end 36 = .ok (.getfield 91, 3) := by decide +kernel
theorem dX1_end_39 : decode cX1_end 39 = .ok (.iload_n 2, 1) := by decide +kernel
theorem dX1_end_40 : decode cX1_end 40 = .ok (.iadd, 1) := by decide +kernel
theorem dX1_end_41 : decode cX1_end 41 = .ok (.aload_n 0, 1) := by decide +kernel
theorem dX1_end_42 : decode cX1_end 42 = .ok (.getfield 9, 3) := by decide +kernel
theorem dX1_end_45 : decode cX1_end 45 = .ok (.iload_n 2, 1) := by decide +kernel
theorem dX1_end_46 : decode cX1_end 46 = .ok (.baload, 1) := by decide +kernel
theorem dX1_end_47 : decode cX1_end 47 = .ok (.bastore, 1) := by decide +kernel
theorem dX1_end_48 : decode cX1_end 48 = .ok (.iinc 2 1, 3) := by decide +kernel
theorem dX1_end_51 : decode cX1_end 51 = .ok (.goto (-25), 3) := by decide +kernel
theorem dX1_end_54 : decode cX1_end 54 = .ok (.aload_n 0, 1) := by decide +kernel
theorem dX1_end_55 : decode cX1_end 55 = .ok (.dup, 1) := by decide +kernel
theorem dX1_end_56 : decode cX1_end 56 = .ok (.getfield 91, 3) := by decide +kernel
theorem dX1_end_59 : decode cX1_end 59 = .ok (.iload_n 1, 1) := by decide +kernel
theorem dX1_end_60 : decode cX1_end 60 = .ok (.iadd, 1) := by decide +kernel
theorem dX1_end_61 : decode cX1_end 61 = .ok (.putfield 91, 3) := by decide +kernel
theorem dX1_end_64 : decode cX1_end 64 = .ok (.iconst 0, 1) := by decide +kernel
theorem dX1_end_65 : decode cX1_end 65 = .ok (.istore_n 2, 1) := by decide +kernel
theorem dX1_end_66 : decode cX1_end 66 = .ok (.iload_n 2, 1) := by decide +kernel
theorem dX1_end_67 : decode cX1_end 67 = .ok (.bipush 20, 2) := by decide +kernel
theorem dX1_end_69 : decode cX1_end 69 = .ok (.if_icmp .ge 16, 3) := by decide +kernel
theorem dX1_end_72 : decode cX1_end 72 = .ok (.aload_n 0, 1) := by decide +kernel
theorem dX1_end_73 : decode cX1_end 73 = .ok (.getfield 9, 3) := by decide +kernel
theorem dX1_end_76 : decode cX1_end 76 = .ok (.iload_n 2, 1) := by decide +kernel
theorem dX1_end_77 : decode cX1_end 77 = .ok (.iconst 0, 1) := by decide +kernel
theorem dX1_end_78 : decode cX1_end 78 = .ok (.bastore, 1) := by decide +kernel
theorem dX1_end_79 : decode cX1_end 79 = .ok (.iinc 2 1, 3) := by decide +kernel
theorem dX1_end_82 : decode cX1_end 82 = .ok (.goto (-16), 3) := by decide +kernel
theorem dX1_end_85 : decode cX1_end 85 = .ok (.aload_n 0, 1) := by decide +kernel
theorem dX1_end_86 : decode cX1_end 86 = .ok (.getfield 91, 3) := by decide +kernel
theorem dX1_end_89 : decode cX1_end 89 = .ok (.ireturn, 1) := by decide +kernel
def b_X1_end_66 (x0 x2 : Int) (M : MM) : Option ((Int × MM) ⊕ (Int × MM)) :=
  if w32 x2 < w32 20 then
    (gfr 1 2 x0 M).bind fun v2 =>
    (sab v2 x2 0 M).bind fun M1 =>
    cnt (x2 + 1, M1)
  else
    xit ((gfi 1 5 x0 M).bind fun v1 => some (v1, M))
def l_X1_end_66 (x0 x2 : Int) (M : MM) : Option (Int × MM) := lpN (fun s : Int × MM => b_X1_end_66 x0 s.1 s.2) FU (x2, M)
def j_X1_end_54 (x0 x1 : Int) (M : MM) : Option (Int × MM) :=
  (gfi 1 5 x0 M).bind fun v1 =>
  (pfi 1 5 x0 (v1 + x1) M).bind fun M1 =>
  l_X1_end_66 x0 0 M1
def b_X1_end_26 (x0 x1 x2 : Int) (M : MM) : Option ((Int × MM) ⊕ (Int × MM)) :=
  if w32 x2 < w32 x1 then
    (gfr 1 3 x0 M).bind fun v1 =>
    (gfi 1 5 x0 M).bind fun v2 =>
    (gfr 1 2 x0 M).bind fun v3 =>
    (lab v3 x2 M).bind fun v4 =>
    (sab v1 (v2 + x2) v4 M).bind fun M1 =>
    cnt (x2 + 1, M1)
  else
    xit (j_X1_end_54 x0 x1 M)
def l_X1_end_26 (x0 x1 x2 : Int) (M : MM) : Option (Int × MM) := lpN (fun s : Int × MM => b_X1_end_26 x0 x1 s.1 s.2) FU (x2, M)
def j_X1_end_22 (M : MM) : Option (Int × MM) :=
  some ((-1), M)
def f_X1_end (x0 x1 : Int) (M : MM) : Option (Int × MM) :=
  if w32 x1 < 0 then
    j_X1_end_22 M
  else
    if w32 20 < w32 x1 then
      j_X1_end_22 M
    else
      (gfi 1 5 x0 M).bind fun v1 =>
      if w32 500 < w32 (v1 + x1) then
        j_X1_end_22 M
      else
        l_X1_end_26 x0 x1 0 M
theorem s_X1_end_66 {g : GG} {d : Nat} (hD : 0 ≤ d) {x0 x2 : Int} {M : MM} {o : AV × MM} {P : ((Int × MM) ⊕ (Int × MM)) → Prop} (c0 : ∀ s : Int × MM, P (.inl s) → Sem g d YX1_end 66 [(1, x0), (9, 0), (0, s.1)] [] s.2 o) (r0 : ∀ r : Int × MM, P (.inr r) → o = ((0, r.1), r.2)) {z : (Int × MM) ⊕ (Int × MM)} (h : b_X1_end_66 x0 x2 M = some z) (hz : P z) : Sem g d YX1_end 66 [(1, x0), (9, 0), (0, x2)] [] M o := by
  delta b_X1_end_66 at h
  refine S_iload_n (i := 2) dX1_end_66 rfl rfl ?_
  refine S_bipush (z := 20) dX1_end_67 rfl ?_
  refine P_icmp_ge (tgt := 85) dX1_end_69 rfl h (fun h => ?_) (fun h => ?_)
  · obtain ⟨z0, h, hz⟩ := xit_some' (P := fun r => P r) h hz
    refine S_aload_n (i := 0) dX1_end_85 rfl rfl ?_
    refine P_gfi FLX1_91 rfl dX1_end_86 h (fun v1 h => ?_)
    obtain rfl := r0 _ (some_P (P := fun r => P (.inr r)) h hz)
    exact P_ret dX1_end_89 rfl (Or.inl rfl)
  · refine S_aload_n (i := 0) dX1_end_72 rfl rfl ?_
    refine P_gfr FLX1_9 rfl dX1_end_73 h (fun v2 h => ?_)
    refine S_iload_n (i := 2) dX1_end_76 rfl rfl ?_
    refine S_iconst dX1_end_77 rfl ?_
    refine P_sab dX1_end_78 h (fun M1 h => ?_)
    refine S_iinc dX1_end_79 rfl rfl rfl ?_
    change Sem g d YX1_end 82 [(1, x0), (9, 0), (0, x2 + 1)] [] M1 o
    refine S_goto (tgt := 66) dX1_end_82 rfl ?_
    exact c0 (x2 + 1, M1) (some_P (P := fun r => P r) h hz)
theorem sl_X1_end_66 {g : GG} {d : Nat} (hD : 0 ≤ d) {x0 x2 : Int} {M : MM} {o : AV × MM} {P : (Int × MM) → Prop} (r0 : ∀ r : Int × MM, P r → o = ((0, r.1), r.2)) {z : Int × MM} (h : l_X1_end_66 x0 x2 M = some z) (hz : P z) : Sem g d YX1_end 66 [(1, x0), (9, 0), (0, x2)] [] M o := by
  refine lp_sound (S := fun s : Int × MM => Sem g d YX1_end 66 [(1, x0), (9, 0), (0, s.1)] [] s.2 o) (P := P) ?_ FU (x2, M) z h hz
  intro s x hx hP
  exact s_X1_end_66 hD (P := Sum.elim (fun s : Int × MM => Sem g d YX1_end 66 [(1, x0), (9, 0), (0, s.1)] [] s.2 o) P) (fun s h => h) (fun s h => r0 s h) hx hP
theorem s_X1_end_54 {g : GG} {d : Nat} (hD : 0 ≤ d) {x0 x1 : Int} {M : MM} {o : AV × MM} {P : (Int × MM) → Prop} (r0 : ∀ r : Int × MM, P r → o = ((0, r.1), r.2)) {z : Int × MM} (h : j_X1_end_54 x0 x1 M = some z) (hz : P z) : Sem g d YX1_end 54 [(1, x0), (0, x1), (9, 0)] [] M o := by
  delta j_X1_end_54 at h
  refine S_aload_n (i := 0) dX1_end_54 rfl rfl ?_
  refine S_dup dX1_end_55 (Nat.le_of_ble_eq_true rfl) ?_
  refine P_gfi FLX1_91 rfl dX1_end_56 h (fun v1 h => ?_)
  refine S_iload_n (i := 1) dX1_end_59 rfl rfl ?_
  refine S_iadd dX1_end_60 ?_
  refine P_pfi FLX1_91 FPX1_91 rfl dX1_end_61 h (fun M1 h => ?_)
  refine S_iconst dX1_end_64 rfl ?_
  refine S_istore_n (i := 2) dX1_end_65 rfl (Nat.le_of_ble_eq_true rfl) rfl rfl ?_
  change Sem g d YX1_end 66 [(1, x0), (0, x1), (0, 0)] [] M1 o
  refine S_weak (ls' := [(1, x0), (9, 0), (0, 0)]) ⟨Or.inr rfl, ⟨Or.inl rfl, ⟨Or.inr rfl, trivial⟩⟩⟩ ?_
  exact sl_X1_end_66 hD r0 h hz
theorem s_X1_end_26 {g : GG} {d : Nat} (hD : 0 ≤ d) {x0 x1 x2 : Int} {M : MM} {o : AV × MM} {P : ((Int × MM) ⊕ (Int × MM)) → Prop} (c0 : ∀ s : Int × MM, P (.inl s) → Sem g d YX1_end 26 [(1, x0), (0, x1), (0, s.1)] [] s.2 o) (r0 : ∀ r : Int × MM, P (.inr r) → o = ((0, r.1), r.2)) {z : (Int × MM) ⊕ (Int × MM)} (h : b_X1_end_26 x0 x1 x2 M = some z) (hz : P z) : Sem g d YX1_end 26 [(1, x0), (0, x1), (0, x2)] [] M o := by
  delta b_X1_end_26 at h
  refine S_iload_n (i := 2) dX1_end_26 rfl rfl ?_
  refine S_iload_n (i := 1) dX1_end_27 rfl rfl ?_
  refine P_icmp_ge (tgt := 54) dX1_end_28 rfl h (fun h => ?_) (fun h => ?_)
  · refine S_weak (ls' := [(1, x0), (0, x1), (9, 0)]) ⟨Or.inr rfl, ⟨Or.inr rfl, ⟨Or.inl rfl, trivial⟩⟩⟩ ?_
    obtain ⟨z0, h, hz⟩ := xit_some' (P := fun r => P r) h hz
    exact s_X1_end_54 hD (P := fun r => P (.inr r)) r0 h hz
  · refine S_aload_n (i := 0) dX1_end_31 rfl rfl ?_
    refine P_gfr FLX1_13 rfl dX1_end_32 h (fun v1 h => ?_)
    refine S_aload_n (i := 0) dX1_end_35 rfl rfl ?_
    refine P_gfi FLX1_91 rfl dX1_end_36 h (fun v2 h => ?_)
    refine S_iload_n (i := 2) dX1_end_39 rfl rfl ?_
    refine S_iadd dX1_end_40 ?_
    refine S_aload_n (i := 0) dX1_end_41 rfl rfl ?_
    refine P_gfr FLX1_9 rfl dX1_end_42 h (fun v3 h => ?_)
    refine S_iload_n (i := 2) dX1_end_45 rfl rfl ?_
    refine P_lab dX1_end_46 h (fun v4 h => ?_)
    refine P_sab dX1_end_47 h (fun M1 h => ?_)
    refine S_iinc dX1_end_48 rfl rfl rfl ?_
    change Sem g d YX1_end 51 [(1, x0), (0, x1), (0, x2 + 1)] [] M1 o
    refine S_goto (tgt := 26) dX1_end_51 rfl ?_
    exact c0 (x2 + 1, M1) (some_P (P := fun r => P r) h hz)
theorem sl_X1_end_26 {g : GG} {d : Nat} (hD : 0 ≤ d) {x0 x1 x2 : Int} {M : MM} {o : AV × MM} {P : (Int × MM) → Prop} (r0 : ∀ r : Int × MM, P r → o = ((0, r.1), r.2)) {z : Int × MM} (h : l_X1_end_26 x0 x1 x2 M = some z) (hz : P z) : Sem g d YX1_end 26 [(1, x0), (0, x1), (0, x2)] [] M o := by
  refine lp_sound (S := fun s : Int × MM => Sem g d YX1_end 26 [(1, x0), (0, x1), (0, s.1)] [] s.2 o) (P := P) ?_ FU (x2, M) z h hz
  intro s x hx hP
  exact s_X1_end_26 hD (P := Sum.elim (fun s : Int × MM => Sem g d YX1_end 26 [(1, x0), (0, x1), (0, s.1)] [] s.2 o) P) (fun s h => h) (fun s h => r0 s h) hx hP
theorem s_X1_end_22 {g : GG} {d : Nat} (hD : 0 ≤ d) {M : MM} {o : AV × MM} {P : (Int × MM) → Prop} (r0 : ∀ r : Int × MM, P r → o = ((0, r.1), r.2)) {z : Int × MM} (h : j_X1_end_22 M = some z) (hz : P z) : Sem g d YX1_end 22 [(9, 0), (9, 0), (9, 0)] [] M o := by
  delta j_X1_end_22 at h
  refine S_iconst dX1_end_22 rfl ?_
  obtain rfl := r0 _ (some_P (P := fun r => P r) h hz)
  exact P_ret dX1_end_23 rfl (Or.inl rfl)
theorem s_X1_end_0 {g : GG} {d : Nat} (hD : 0 ≤ d) {x0 x1 : Int} {M : MM} {o : AV × MM} {P : (Int × MM) → Prop} (r0 : ∀ r : Int × MM, P r → o = ((0, r.1), r.2)) {z : Int × MM} (h : f_X1_end x0 x1 M = some z) (hz : P z) : Sem g d YX1_end 0 [(1, x0), (0, x1), (9, 0)] [] M o := by
  delta f_X1_end at h
  refine S_iload_n (i := 1) dX1_end_0 rfl rfl ?_
  refine P_if_lt (tgt := 22) dX1_end_1 rfl h (fun h => ?_) (fun h => ?_)
  · refine S_weak (ls' := [(9, 0), (9, 0), (9, 0)]) ⟨Or.inl rfl, ⟨Or.inl rfl, ⟨Or.inl rfl, trivial⟩⟩⟩ ?_
    exact s_X1_end_22 hD r0 h hz
  · refine S_iload_n (i := 1) dX1_end_4 rfl rfl ?_
    refine S_bipush (z := 20) dX1_end_5 rfl ?_
    refine P_icmp_gt (tgt := 22) dX1_end_7 rfl h (fun h => ?_) (fun h => ?_)
    · refine S_weak (ls' := [(9, 0), (9, 0), (9, 0)]) ⟨Or.inl rfl, ⟨Or.inl rfl, ⟨Or.inl rfl, trivial⟩⟩⟩ ?_
      exact s_X1_end_22 hD r0 h hz
    · refine S_aload_n (i := 0) dX1_end_10 rfl rfl ?_
      refine P_gfi FLX1_91 rfl dX1_end_11 h (fun v1 h => ?_)
      refine S_iload_n (i := 1) dX1_end_14 rfl rfl ?_
      refine S_iadd dX1_end_15 ?_
      refine S_sipush (z := 500) dX1_end_16 rfl ?_
      refine P_icmp_le (tgt := 24) dX1_end_19 rfl h (fun h => ?_) (fun h => ?_)
      · refine S_iconst dX1_end_24 rfl ?_
        refine S_istore_n (i := 2) dX1_end_25 rfl (Nat.le_of_ble_eq_true rfl) rfl rfl ?_
        change Sem g d YX1_end 26 [(1, x0), (0, x1), (0, 0)] [] M o
        exact sl_X1_end_26 hD r0 h hz
      · refine S_weak (ls' := [(9, 0), (9, 0), (9, 0)]) ⟨Or.inl rfl, ⟨Or.inl rfl, ⟨Or.inl rfl, trivial⟩⟩⟩ ?_
        exact s_X1_end_22 hD r0 h hz
theorem F_X1_end {g : GG} {d : Nat} (hD : 0 ≤ d) {x0 x1 : Int} {M : MM} {r : Int × MM} (h : f_X1_end x0 x1 M = some r) : Sem g d YX1_end 0 (ini YX1_end [(1, x0), (0, x1)]) [] M ((0, r.1), r.2) := by
  change Sem g d YX1_end 0 [(1, x0), (0, x1), (9, 0)] [] M ((0, r.1), r.2)
  exact s_X1_end_0 hD (P := fun x => x = r) (fun q e => by rw [e]) h rfl
/-! PeerSearch.feed(IIIII)V -/
theorem dX1_feed_0 : decode cX1_feed 0 = .ok (.iconst 0, 1) := by decide +kernel
theorem dX1_feed_1 : decode cX1_feed 1 = .ok (.istore 6, 2) := by decide +kernel
theorem dX1_feed_3 : decode cX1_feed 3 = .ok (.iload 6, 2) := by decide +kernel
theorem dX1_feed_5 : decode cX1_feed 5 = .ok (.iconst 4, 1) := by decide +kernel
theorem dX1_feed_6 : decode cX1_feed 6 = .ok (.if_icmp .ge 92, 3) := by decide +kernel
theorem dX1_feed_9 : decode cX1_feed 9 = .ok (.bipush 24, 2) := by decide +kernel
theorem dX1_feed_11 : decode cX1_feed 11 = .ok (.bipush 8, 2) := by decide +kernel
theorem dX1_feed_13 : decode cX1_feed 13 = .ok (.iload 6, 2) := by decide +kernel
theorem dX1_feed_15 : decode cX1_feed 15 = .ok (.imul, 1) := by decide +kernel
theorem dX1_feed_16 : decode cX1_feed 16 = .ok (.isub, 1) := by decide +kernel
theorem dX1_feed_17 : decode cX1_feed 17 = .ok (.istore 7, 2) := by decide +kernel
theorem dX1_feed_19 : decode cX1_feed 19 = .ok (.aload_n 0, 1) := by decide +kernel
theorem dX1_feed_20 : decode cX1_feed 20 = .ok (.getfield 9, 3) := by decide +kernel
theorem dX1_feed_23 : decode cX1_feed 23 = .ok (.iload 6, 2) := by decide +kernel
theorem dX1_feed_25 : decode cX1_feed 25 = .ok (.iload_n 1, 1) := by decide +kernel
theorem dX1_feed_26 : decode cX1_feed 26 = .ok (.iload 7, 2) := by decide +kernel
theorem dX1_feed_28 : decode cX1_feed 28 = .ok (.ishr, 1) := by decide +kernel
theorem dX1_feed_29 : decode cX1_feed 29 = .ok (.i2b, 1) := by decide +kernel
theorem dX1_feed_30 : decode cX1_feed 30 = .ok (.bastore, 1) := by decide +kernel
theorem dX1_feed_31 : decode cX1_feed 31 = .ok (.aload_n 0, 1) := by decide +kernel
theorem dX1_feed_32 : decode cX1_feed 32 = .ok (.getfield 9, 3) := by decide +kernel
theorem dX1_feed_35 : decode cX1_feed 35 = .ok (.iconst 4, 1) := by decide +kernel
theorem dX1_feed_36 : decode cX1_feed 36 = .ok (.iload 6, 2) := by decide +kernel
theorem dX1_feed_38 : decode cX1_feed 38 = .ok (.iadd, 1) := by decide +kernel
theorem dX1_feed_39 : decode cX1_feed 39 = .ok (.iload_n 2, 1) := by decide +kernel
theorem dX1_feed_40 : decode cX1_feed 40 = .ok (.iload 7, 2) := by decide +kernel
theorem dX1_feed_42 : decode cX1_feed 42 = .ok (.ishr, 1) := by decide +kernel
theorem dX1_feed_43 : decode cX1_feed 43 = .ok (.i2b, 1) := by decide +kernel
theorem dX1_feed_44 : decode cX1_feed 44 = .ok (.bastore, 1) := by decide +kernel
theorem dX1_feed_45 : decode cX1_feed 45 = .ok (.aload_n 0, 1) := by decide +kernel
theorem dX1_feed_46 : decode cX1_feed 46 = .ok (.getfield 9, 3) := by decide +kernel
theorem dX1_feed_49 : decode cX1_feed 49 = .ok (.bipush 8, 2) := by decide +kernel
theorem dX1_feed_51 : decode cX1_feed 51 = .ok (.iload 6, 2) := by decide +kernel
theorem dX1_feed_53 : decode cX1_feed 53 = .ok (.iadd, 1) := by decide +kernel
theorem dX1_feed_54 : decode cX1_feed 54 = .ok (.iload_n 3, 1) := by decide +kernel
theorem dX1_feed_55 : decode cX1_feed 55 = .ok (.iload 7, 2) := by decide +kernel
theorem dX1_feed_57 : decode cX1_feed 57 = .ok (.ishr, 1) := by decide +kernel
theorem dX1_feed_58 : decode cX1_feed 58 = .ok (.i2b, 1) := by decide +kernel
theorem dX1_feed_59 : decode cX1_feed 59 = .ok (.bastore, 1) := by decide +kernel
theorem dX1_feed_60 : decode cX1_feed 60 = .ok (.aload_n 0, 1) := by decide +kernel
theorem dX1_feed_61 : decode cX1_feed 61 = .ok (.getfield 9, 3) := by decide +kernel
theorem dX1_feed_64 : decode cX1_feed 64 = .ok (.bipush 12, 2) := by decide +kernel
theorem dX1_feed_66 : decode cX1_feed 66 = .ok (.iload 6, 2) := by decide +kernel
theorem dX1_feed_68 : decode cX1_feed 68 = .ok (.iadd, 1) := by decide +kernel
theorem dX1_feed_69 : decode cX1_feed 69 = .ok (.iload 4, 2) := by decide +kernel
theorem dX1_feed_71 : decode cX1_feed 71 = .ok (.iload 7, 2) := by decide +kernel
theorem dX1_feed_73 : decode cX1_feed 73 = .ok (.ishr, 1) := by decide +kernel
theorem dX1_feed_74 : decode cX1_feed 74 = .ok (.i2b, 1) := by decide +kernel
theorem dX1_feed_75 : decode cX1_feed 75 = .ok (.bastore, 1) := by decide +kernel
theorem dX1_feed_76 : decode cX1_feed 76 = .ok (.aload_n 0, 1) := by decide +kernel
theorem dX1_feed_77 : decode cX1_feed 77 = .ok (.getfield 9, 3) := by decide +kernel
theorem dX1_feed_80 : decode cX1_feed 80 = .ok (.bipush 16, 2) := by decide +kernel
theorem dX1_feed_82 : decode cX1_feed 82 = .ok (.iload 6, 2) := by decide +kernel
theorem dX1_feed_84 : decode cX1_feed 84 = .ok (.iadd, 1) := by decide +kernel
theorem dX1_feed_85 : decode cX1_feed 85 = .ok (.iload 5, 2) := by decide +kernel
theorem dX1_feed_87 : decode cX1_feed 87 = .ok (.iload 7, 2) := by decide +kernel
theorem dX1_feed_89 : decode cX1_feed 89 = .ok (.ishr, 1) := by decide +kernel
theorem dX1_feed_90 : decode cX1_feed 90 = .ok (.i2b, 1) := by decide +kernel
theorem dX1_feed_91 : decode cX1_feed 91 = .ok (.bastore, 1) := by decide +kernel
theorem dX1_feed_92 : decode cX1_feed 92 = .ok (.iinc 6 1, 3) := by decide +kernel
theorem dX1_feed_95 : decode cX1_feed 95 = .ok (.goto (-92), 3) := by decide +kernel
theorem dX1_feed_98 : decode cX1_feed 98 = .ok (.return_, 1) := by decide +kernel
def b_X1_feed_3 (x0 x1 x2 x3 x4 x5 x6 : Int) (M : MM) : Option ((Int × MM) ⊕ (MM)) :=
  if w32 x6 < w32 4 then
    (gfr 1 2 x0 M).bind fun v1 =>
    (sab v1 x6 (sx8 (bshr x1 (24 - (8 * x6)))) M).bind fun M1 =>
    (gfr 1 2 x0 M1).bind fun v2 =>
    (sab v2 (4 + x6) (sx8 (bshr x2 (24 - (8 * x6)))) M1).bind fun M2 =>
    (gfr 1 2 x0 M2).bind fun v3 =>
    (sab v3 (8 + x6) (sx8 (bshr x3 (24 - (8 * x6)))) M2).bind fun M3 =>
    (gfr 1 2 x0 M3).bind fun v4 =>
    (sab v4 (12 + x6) (sx8 (bshr x4 (24 - (8 * x6)))) M3).bind fun M4 =>
    (gfr 1 2 x0 M4).bind fun v5 =>
    (sab v5 (16 + x6) (sx8 (bshr x5 (24 - (8 * x6)))) M4).bind fun M5 =>
    cnt (x6 + 1, M5)
  else
    xit (some M)
def l_X1_feed_3 (x0 x1 x2 x3 x4 x5 x6 : Int) (M : MM) : Option (MM) := lpN (fun s : Int × MM => b_X1_feed_3 x0 x1 x2 x3 x4 x5 s.1 s.2) FU (x6, M)
def f_X1_feed (x0 x1 x2 x3 x4 x5 : Int) (M : MM) : Option (MM) :=
  l_X1_feed_3 x0 x1 x2 x3 x4 x5 0 M
theorem s_X1_feed_3 {g : GG} {d : Nat} (hD : 0 ≤ d) {x0 x1 x2 x3 x4 x5 x6 : Int} {M : MM} {o : AV × MM} {P : ((Int × MM) ⊕ (MM)) → Prop} (c0 : ∀ s : Int × MM, P (.inl s) → Sem g d YX1_feed 3 [(1, x0), (0, x1), (0, x2), (0, x3), (0, x4), (0, x5), (0, s.1), (9, 0)] [] s.2 o) (r0 : ∀ r : MM, P (.inr r) → o = ((9, 0), r)) {z : (Int × MM) ⊕ (MM)} (h : b_X1_feed_3 x0 x1 x2 x3 x4 x5 x6 M = some z) (hz : P z) : Sem g d YX1_feed 3 [(1, x0), (0, x1), (0, x2), (0, x3), (0, x4), (0, x5), (0, x6), (9, 0)] [] M o := by
  delta b_X1_feed_3 at h
  refine S_iload dX1_feed_3 rfl ?_
  refine S_iconst dX1_feed_5 rfl ?_
  refine P_icmp_ge (tgt := 98) dX1_feed_6 rfl h (fun h => ?_) (fun h => ?_)
  · obtain ⟨z0, h, hz⟩ := xit_some' (P := fun r => P r) h hz
    obtain rfl := r0 _ (some_P (P := fun r => P (.inr r)) h hz)
    exact S_return dX1_feed_98 rfl
  · refine S_bipush (z := 24) dX1_feed_9 rfl ?_
    refine S_bipush (z := 8) dX1_feed_11 rfl ?_
    refine S_iload dX1_feed_13 rfl ?_
    refine S_imul dX1_feed_15 ?_
    refine S_isub dX1_feed_16 ?_
    refine S_istore dX1_feed_17 (Nat.le_of_ble_eq_true rfl) rfl rfl ?_
    change Sem g d YX1_feed 19 [(1, x0), (0, x1), (0, x2), (0, x3), (0, x4), (0, x5), (0, x6), (0, 24 - (8 * x6))] [] M o
    refine S_aload_n (i := 0) dX1_feed_19 rfl rfl ?_
    refine P_gfr FLX1_9 rfl dX1_feed_20 h (fun v1 h => ?_)
    refine S_iload dX1_feed_23 rfl ?_
    refine S_iload_n (i := 1) dX1_feed_25 rfl rfl ?_
    refine S_iload dX1_feed_26 rfl ?_
    refine S_ishr dX1_feed_28 ?_
    refine S_i2b dX1_feed_29 ?_
    refine P_sab dX1_feed_30 h (fun M1 h => ?_)
    refine S_aload_n (i := 0) dX1_feed_31 rfl rfl ?_
    refine P_gfr FLX1_9 rfl dX1_feed_32 h (fun v2 h => ?_)
    refine S_iconst dX1_feed_35 rfl ?_
    refine S_iload dX1_feed_36 rfl ?_
    refine S_iadd dX1_feed_38 ?_
    refine S_iload_n (i := 2) dX1_feed_39 rfl rfl ?_
    refine S_iload dX1_feed_40 rfl ?_
    refine S_ishr dX1_feed_42 ?_
    refine S_i2b dX1_feed_43 ?_
    refine P_sab dX1_feed_44 h (fun M2 h => ?_)
    refine S_aload_n (i := 0) dX1_feed_45 rfl rfl ?_
    refine P_gfr FLX1_9 rfl dX1_feed_46 h (fun v3 h => ?_)
    refine S_bipush (z := 8) dX1_feed_49 rfl ?_
    refine S_iload dX1_feed_51 rfl ?_
    refine S_iadd dX1_feed_53 ?_
    refine S_iload_n (i := 3) dX1_feed_54 rfl rfl ?_
    refine S_iload dX1_feed_55 rfl ?_
    refine S_ishr dX1_feed_57 ?_
    refine S_i2b dX1_feed_58 ?_
    refine P_sab dX1_feed_59 h (fun M3 h => ?_)
    refine S_aload_n (i := 0) dX1_feed_60 rfl rfl ?_
    refine P_gfr FLX1_9 rfl dX1_feed_61 h (fun v4 h => ?_)
    refine S_bipush (z := 12) dX1_feed_64 rfl ?_
    refine S_iload dX1_feed_66 rfl ?_
    refine S_iadd dX1_feed_68 ?_
    refine S_iload dX1_feed_69 rfl ?_
    refine S_iload dX1_feed_71 rfl ?_
    refine S_ishr dX1_feed_73 ?_
    refine S_i2b dX1_feed_74 ?_
    refine P_sab dX1_feed_75 h (fun M4 h => ?_)
    refine S_aload_n (i := 0) dX1_feed_76 rfl rfl ?_
    refine P_gfr FLX1_9 rfl dX1_feed_77 h (fun v5 h => ?_)
    refine S_bipush (z := 16) dX1_feed_80 rfl ?_
    refine S_iload dX1_feed_82 rfl ?_
    refine S_iadd dX1_feed_84 ?_
    refine S_iload dX1_feed_85 rfl ?_
    refine S_iload dX1_feed_87 rfl ?_
    refine S_ishr dX1_feed_89 ?_
    refine S_i2b dX1_feed_90 ?_
    refine P_sab dX1_feed_91 h (fun M5 h => ?_)
    refine S_iinc dX1_feed_92 rfl rfl rfl ?_
    change Sem g d YX1_feed 95 [(1, x0), (0, x1), (0, x2), (0, x3), (0, x4), (0, x5), (0, x6 + 1), (0, 24 - (8 * x6))] [] M5 o
    refine S_goto (tgt := 3) dX1_feed_95 rfl ?_
    refine S_weak (ls' := [(1, x0), (0, x1), (0, x2), (0, x3), (0, x4), (0, x5), (0, x6 + 1), (9, 0)]) ⟨Or.inr rfl, ⟨Or.inr rfl, ⟨Or.inr rfl, ⟨Or.inr rfl, ⟨Or.inr rfl, ⟨Or.inr rfl, ⟨Or.inr rfl, ⟨Or.inl rfl, trivial⟩⟩⟩⟩⟩⟩⟩⟩ ?_
    exact c0 (x6 + 1, M5) (some_P (P := fun r => P r) h hz)
theorem sl_X1_feed_3 {g : GG} {d : Nat} (hD : 0 ≤ d) {x0 x1 x2 x3 x4 x5 x6 : Int} {M : MM} {o : AV × MM} {P : (MM) → Prop} (r0 : ∀ r : MM, P r → o = ((9, 0), r)) {z : MM} (h : l_X1_feed_3 x0 x1 x2 x3 x4 x5 x6 M = some z) (hz : P z) : Sem g d YX1_feed 3 [(1, x0), (0, x1), (0, x2), (0, x3), (0, x4), (0, x5), (0, x6), (9, 0)] [] M o := by
  refine lp_sound (S := fun s : Int × MM => Sem g d YX1_feed 3 [(1, x0), (0, x1), (0, x2), (0, x3), (0, x4), (0, x5), (0, s.1), (9, 0)] [] s.2 o) (P := P) ?_ FU (x6, M) z h hz
  intro s x hx hP
  exact s_X1_feed_3 hD (P := Sum.elim (fun s : Int × MM => Sem g d YX1_feed 3 [(1, x0), (0, x1), (0, x2), (0, x3), (0, x4), (0, x5), (0, s.1), (9, 0)] [] s.2 o) P) (fun s h => h) (fun s h => r0 s h) hx hP
theorem s_X1_feed_0 {g : GG} {d : Nat} (hD : 0 ≤ d) {x0 x1 x2 x3 x4 x5 : Int} {M : MM} {o : AV × MM} {P : (MM) → Prop} (r0 : ∀ r : MM, P r → o = ((9, 0), r)) {z : MM} (h : f_X1_feed x0 x1 x2 x3 x4 x5 M = some z) (hz : P z) : Sem g d YX1_feed 0 [(1, x0), (0, x1), (0, x2), (0, x3), (0, x4), (0, x5), (9, 0), (9, 0)] [] M o := by
  delta f_X1_feed at h
  refine S_iconst dX1_feed_0 rfl ?_
  refine S_istore dX1_feed_1 (Nat.le_of_ble_eq_true rfl) rfl rfl ?_
  change Sem g d YX1_feed 3 [(1, x0), (0, x1), (0, x2), (0, x3), (0, x4), (0, x5), (0, 0), (9, 0)] [] M o
  exact sl_X1_feed_3 hD r0 h hz
theorem F_X1_feed {g : GG} {d : Nat} (hD : 0 ≤ d) {x0 x1 x2 x3 x4 x5 : Int} {M : MM} {r : MM} (h : f_X1_feed x0 x1 x2 x3 x4 x5 M = some r) : Sem g d YX1_feed 0 (ini YX1_feed [(1, x0), (0, x1), (0, x2), (0, x3), (0, x4), (0, x5)]) [] M ((9, 0), r) := by
  change Sem g d YX1_feed 0 [(1, x0), (0, x1), (0, x2), (0, x3), (0, x4), (0, x5), (9, 0), (9, 0)] [] M ((9, 0), r)
  exact s_X1_feed_0 hD (P := fun x => x = r) (fun q e => by rw [e]) h rfl
/-! PeerSearch$Packet.get(II)I -/
theorem dX4_get_0 : decode cX4_get 0 = .ok (.iconst 0, 1) := by decide +kernel
theorem dX4_get_1 : decode cX4_get 1 = .ok (.istore_n 3, 1) := by decide +kernel
theorem dX4_get_2 : decode cX4_get 2 = .ok (.iconst 0, 1) := by decide +kernel
theorem dX4_get_3 : decode cX4_get 3 = .ok (.istore 4, 2) := by decide +kernel
theorem dX4_get_5 : decode cX4_get 5 = .ok (.iload 4, 2) := by decide +kernel
theorem dX4_get_7 : decode cX4_get 7 = .ok (.iload_n 2, 1) := by decide +kernel
theorem dX4_get_8 : decode cX4_get 8 = .ok (.if_icmp .ge 28, 3) := by decide +kernel
theorem dX4_get_11 : decode cX4_get 11 = .ok (.iload_n 3, 1) := by decide +kernel
theorem dX4_get_12 : decode cX4_get 12 = .ok (.bipush 8, 2) := by decide +kernel
theorem dX4_get_14 : decode cX4_get 14 = .ok (.ishl, 1) := by decide +kernel
theorem dX4_get_15 : decode cX4_get 15 = .ok (.aload_n 0, 1) := by decide +kernel
theorem dX4_get_16 : decode cX4_get 16 = .ok (.getfield 11, 3) := by decide +kernel
theorem dX4_get_19 : decode cX4_get 19 = .ok (.iload_n 1, 1) := by decide +kernel
theorem dX4_get_20 : decode cX4_get 20 = .ok (.iload 4, 2) := by decide +kernel
theorem dX4_get_22 : decode cX4_get 22 = .ok (.iadd, 1) := by decide +kernel
theorem dX4_get_23 : decode cX4_get 23 = .ok (.baload, 1) := by decide +kernel
theorem dX4_get_24 : decode cX4_get 24 = .ok (.sipush 255, 3) := by decide +kernel
theorem dX4_get_27 : decode cX4_get 27 = .ok (.iand, 1) := by decide +kernel
theorem dX4_get_28 : decode cX4_get 28 = .ok (.ior, 1) := by decide +kernel
theorem dX4_get_29 : decode cX4_get 29 = .ok (.istore_n 3, 1) := by decide +kernel
theorem dX4_get_30 : decode cX4_get 30 = .ok (.iinc 4 1, 3) := by decide +kernel
theorem dX4_get_33 : decode cX4_get 33 = .ok (.goto (-28), 3) := by decide +kernel
theorem dX4_get_36 : decode cX4_get 36 = .ok (.iload_n 3, 1) := by decide +kernel
theorem dX4_get_37 : decode cX4_get 37 = .ok (.ireturn, 1) := by decide +kernel
def b_X4_get_5 (x0 x1 x2 x3 x4 : Int) (M : MM) : Option ((Int × Int) ⊕ (Int)) :=
  if w32 x4 < w32 x2 then
    (gfr 4 0 x0 M).bind fun v1 =>
    (lab v1 (x1 + x4) M).bind fun v2 =>
    cnt (bor (bshl x3 8) (band v2 255), x4 + 1)
  else
    xit (some x3)
def l_X4_get_5 (x0 x1 x2 x3 x4 : Int) (M : MM) : Option (Int) := lpN (fun s : Int × Int => b_X4_get_5 x0 x1 x2 s.1 s.2 M) FU (x3, x4)
def f_X4_get (x0 x1 x2 : Int) (M : MM) : Option (Int) :=
  l_X4_get_5 x0 x1 x2 0 0 M
theorem s_X4_get_5 {g : GG} {d : Nat} (hD : 0 ≤ d) {x0 x1 x2 x3 x4 : Int} {M : MM} {o : AV × MM} {P : ((Int × Int) ⊕ (Int)) → Prop} (c0 : ∀ s : Int × Int, P (.inl s) → Sem g d YX4_get 5 [(1, x0), (0, x1), (0, x2), (0, s.1), (0, s.2)] [] M o) (r0 : ∀ r : Int, P (.inr r) → o = ((0, r), M)) {z : (Int × Int) ⊕ (Int)} (h : b_X4_get_5 x0 x1 x2 x3 x4 M = some z) (hz : P z) : Sem g d YX4_get 5 [(1, x0), (0, x1), (0, x2), (0, x3), (0, x4)] [] M o := by
  delta b_X4_get_5 at h
  refine S_iload dX4_get_5 rfl ?_
  refine S_iload_n (i := 2) dX4_get_7 rfl rfl ?_
  refine P_icmp_ge (tgt := 36) dX4_get_8 rfl h (fun h => ?_) (fun h => ?_)
  · obtain ⟨z0, h, hz⟩ := xit_some' (P := fun r => P r) h hz
    refine S_iload_n (i := 3) dX4_get_36 rfl rfl ?_
    obtain rfl := r0 _ (some_P (P := fun r => P (.inr r)) h hz)
    exact P_ret dX4_get_37 rfl (Or.inl rfl)
  · refine S_iload_n (i := 3) dX4_get_11 rfl rfl ?_
    refine S_bipush (z := 8) dX4_get_12 rfl ?_
    refine S_ishl dX4_get_14 ?_
    refine S_aload_n (i := 0) dX4_get_15 rfl rfl ?_
    refine P_gfr FLX4_11 rfl dX4_get_16 h (fun v1 h => ?_)
    refine S_iload_n (i := 1) dX4_get_19 rfl rfl ?_
    refine S_iload dX4_get_20 rfl ?_
    refine S_iadd dX4_get_22 ?_
    refine P_lab dX4_get_23 h (fun v2 h => ?_)
    refine S_sipush (z := 255) dX4_get_24 rfl ?_
    refine S_iand dX4_get_27 ?_
    refine S_ior dX4_get_28 ?_
    refine S_istore_n (i := 3) dX4_get_29 rfl (Nat.le_of_ble_eq_true rfl) rfl rfl ?_
    change Sem g d YX4_get 30 [(1, x0), (0, x1), (0, x2), (0, bor (bshl x3 8) (band v2 255)), (0, x4)] [] M o
    refine S_iinc dX4_get_30 rfl rfl rfl ?_
    change Sem g d YX4_get 33 [(1, x0), (0, x1), (0, x2), (0, bor (bshl x3 8) (band v2 255)), (0, x4 + 1)] [] M o
    refine S_goto (tgt := 5) dX4_get_33 rfl ?_
    exact c0 (bor (bshl x3 8) (band v2 255), x4 + 1) (some_P (P := fun r => P r) h hz)
theorem sl_X4_get_5 {g : GG} {d : Nat} (hD : 0 ≤ d) {x0 x1 x2 x3 x4 : Int} {M : MM} {o : AV × MM} {P : (Int) → Prop} (r0 : ∀ r : Int, P r → o = ((0, r), M)) {z : Int} (h : l_X4_get_5 x0 x1 x2 x3 x4 M = some z) (hz : P z) : Sem g d YX4_get 5 [(1, x0), (0, x1), (0, x2), (0, x3), (0, x4)] [] M o := by
  refine lp_sound (S := fun s : Int × Int => Sem g d YX4_get 5 [(1, x0), (0, x1), (0, x2), (0, s.1), (0, s.2)] [] M o) (P := P) ?_ FU (x3, x4) z h hz
  intro s x hx hP
  exact s_X4_get_5 hD (P := Sum.elim (fun s : Int × Int => Sem g d YX4_get 5 [(1, x0), (0, x1), (0, x2), (0, s.1), (0, s.2)] [] M o) P) (fun s h => h) (fun s h => r0 s h) hx hP
theorem s_X4_get_0 {g : GG} {d : Nat} (hD : 0 ≤ d) {x0 x1 x2 : Int} {M : MM} {o : AV × MM} {P : (Int) → Prop} (r0 : ∀ r : Int, P r → o = ((0, r), M)) {z : Int} (h : f_X4_get x0 x1 x2 M = some z) (hz : P z) : Sem g d YX4_get 0 [(1, x0), (0, x1), (0, x2), (9, 0), (9, 0)] [] M o := by
  delta f_X4_get at h
  refine S_iconst dX4_get_0 rfl ?_
  refine S_istore_n (i := 3) dX4_get_1 rfl (Nat.le_of_ble_eq_true rfl) rfl rfl ?_
  change Sem g d YX4_get 2 [(1, x0), (0, x1), (0, x2), (0, 0), (9, 0)] [] M o
  refine S_iconst dX4_get_2 rfl ?_
  refine S_istore dX4_get_3 (Nat.le_of_ble_eq_true rfl) rfl rfl ?_
  change Sem g d YX4_get 5 [(1, x0), (0, x1), (0, x2), (0, 0), (0, 0)] [] M o
  exact sl_X4_get_5 hD r0 h hz
theorem F_X4_get {g : GG} {d : Nat} (hD : 0 ≤ d) {x0 x1 x2 : Int} {M : MM} {r : Int} (h : f_X4_get x0 x1 x2 M = some r) : Sem g d YX4_get 0 (ini YX4_get [(1, x0), (0, x1), (0, x2)]) [] M ((0, r), M) := by
  change Sem g d YX4_get 0 [(1, x0), (0, x1), (0, x2), (9, 0), (9, 0)] [] M ((0, r), M)
  exact s_X4_get_0 hD (P := fun x => x = r) (fun q e => by rw [e]) h rfl
/-! PeerSearch.flight(II)I -/
theorem dX1_flight_0 : decode cX1_flight 0 = .ok (.iload_n 1, 1) := by decide +kernel
theorem dX1_flight_1 : decode cX1_flight 1 = .ok (.ifCond .lt 14, 3) := by decide +kernel
theorem dX1_flight_4 : decode cX1_flight 4 = .ok (.iload_n 1, 1) := by decide +kernel
theorem dX1_flight_5 : decode cX1_flight 5 = .ok (.aload_n 0, 1) := by decide +kernel
theorem dX1_flight_6 : decode cX1_flight 6 = .ok (.getfield 78, 3) := by decide +kernel
theorem dX1_flight_9 : decode cX1_flight 9 = .ok (.getfield 339, 3) := by decide +kernel
theorem dX1_flight_12 : decode cX1_flight 12 = .ok (.if_icmp .lt 5, 3) := by decide +kernel
theorem dX1_flight_15 : decode cX1_flight 15 = .ok (.iconst (-1), 1) := by decide +kernel
theorem dX1_flight_16 : decode cX1_flight 16 = .ok (.ireturn, 1) := by decide +kernel
theorem dX1_flight_17 : decode cX1_flight 17 = .ok (.aload_n 0, 1) := by decide +kernel
theorem dX1_flight_18 : decode cX1_flight 18 = .ok (.getfield 78, 3) := by decide +kernel
theorem dX1_flight_21 : decode cX1_flight 21 = .ok (.getfield 410, 3) := by decide +kernel
theorem dX1_flight_24 : decode cX1_flight 24 = .ok (.iload_n 1, 1) := by decide +kernel
theorem dX1_flight_25 : decode cX1_flight 25 = .ok (.aaload, 1) := by decide +kernel
theorem dX1_flight_26 : decode cX1_flight 26 = .ok (.astore_n 3, 1) := by decide +kernel
theorem dX1_flight_27 : decode cX1_flight 27 = .ok (.iload_n 2, 1) := by decide +kernel
theorem dX1_flight_28 : decode cX1_flight 28 = .ok (.tableswitch 55 0 3 #[32, 37, 42, 47], 32) := by decide +kernel
theorem dX1_flight_60 : decode cX1_flight 60 = .ok (.aload_n 3, 1) := by decide +kernel
theorem dX1_flight_61 : decode cX1_flight 61 = .ok (.getfield 325, 3) := by decide +kernel
theorem dX1_flight_64 : decode cX1_flight 64 = .ok (.ireturn, 1) := by decide +kernel
theorem dX1_flight_65 : decode cX1_flight 65 = .ok (.aload_n 3, 1) := by decide +kernel
theorem dX1_flight_66 : decode cX1_flight 66 = .ok (.getfield 320, 3) := by decide +kernel
theorem dX1_flight_69 : decode cX1_flight 69 = .ok (.ireturn, 1) := by decide +kernel
theorem dX1_flight_70 : decode cX1_flight 70 = .ok (.aload_n 3, 1) := by decide +kernel
theorem dX1_flight_71 : decode cX1_flight 71 = .ok (.getfield 414, 3) := by decide +kernel
theorem dX1_flight_74 : decode cX1_flight 74 = .ok (.ireturn, 1) := by decide +kernel
theorem dX1_flight_75 : decode cX1_flight 75 = .ok (.aload_n 3, 1) := by decide +kernel
theorem dX1_flight_76 : decode cX1_flight 76 = .ok (.getfield 417, 3) := by decide +kernel
theorem dX1_flight_79 : decode cX1_flight 79 = .ok (.getfield 278, 3) := by decide +kernel
theorem dX1_flight_82 : decode cX1_flight 82 = .ok (.ireturn, 1) := by decide +kernel
theorem dX1_flight_83 : decode cX1_flight 83 = .ok (.iload_n 2, 1) := by decide +kernel
theorem dX1_flight_84 : decode cX1_flight 84 = .ok (.iconst 4, 1) := by decide +kernel
theorem dX1_flight_85 : decode cX1_flight 85 = .ok (.if_icmp .lt 30, 3) := by decide +kernel
theorem dX1_flight_88 : decode cX1_flight 88 = .ok (.iload_n 2, 1) := by decide +kernel
theorem dX1_flight_89 : decode cX1_flight 89 = .ok (.iconst 4, 1) := by decide +kernel
theorem dX1_flight_90 : decode cX1_flight 90 = .ok (.isub, 1) := by decide +kernel
theorem dX1_flight_91 : decode cX1_flight 91 = .ok (.aload_n 3, 1) := by decide +kernel
theorem dX1_flight_92 : decode cX1_flight 92 = .ok (.getfield 417, 3) := by decide +kernel
theorem dX1_flight_95 : decode cX1_flight 95 = .ok (.getfield 278, 3) := by decide +kernel
theorem dX1_flight_98 : decode cX1_flight 98 = .ok (.if_icmp .ge 17, 3) := by decide +kernel
theorem dX1_flight_101 : decode cX1_flight 101 = .ok (.aload_n 3, 1) := by decide +kernel
theorem dX1_flight_102 : decode cX1_flight 102 = .ok (.getfield 417, 3) := by decide +kernel
theorem dX1_flight_105 : decode cX1_flight 105 = .ok (.iload_n 2, 1) := by decide +kernel
theorem dX1_flight_106 : decode cX1_flight 106 = .ok (.iconst 4, 1) := by decide +kernel
theorem dX1_flight_107 : decode cX1_flight 107 = .ok (.isub, 1) := by decide +kernel
theorem dX1_flight_108 : decode cX1_flight 108 = .ok (.iconst 1, 1) := by decide +kernel
theorem dX1_flight_109 : decode cX1_flight 109 = .ok (.invokevirtual 420, 3) := by decide +kernel
theorem dX1_flight_112 : decode cX1_flight 112 = .ok (.goto 4, 3) := by decide +kernel
theorem dX1_flight_115 : decode cX1_flight 115 = .ok (.iconst (-1), 1) := by decide +kernel
theorem dX1_flight_116 : decode cX1_flight 116 = .ok (.ireturn, 1) := by decide +kernel
def j_X1_flight_116 (y0 : Int) (M : MM) : Option (Int) :=
  some y0
def j_X1_flight_115 (M : MM) : Option (Int) :=
  j_X1_flight_116 (-1) M
def j_X1_flight_15 (M : MM) : Option (Int) :=
  some (-1)
def f_X1_flight (x0 x1 x2 : Int) (M : MM) : Option (Int) :=
  if w32 x1 < 0 then
    j_X1_flight_15 M
  else
    (gfr 1 1 x0 M).bind fun v1 =>
    (gfi 7 2 v1 M).bind fun v2 =>
    if w32 x1 < w32 v2 then
      (gfr 1 1 x0 M).bind fun v3 =>
      (gfr 7 1 v3 M).bind fun v4 =>
      (lar 5 v4 x1 M).bind fun v5 =>
      swt (w32 x2) 0 [
        (
        (gfi 25 0 v5 M).bind fun v6 =>
        some v6
        ),
        (
        (gfi 25 1 v5 M).bind fun v7 =>
        some v7
        ),
        (
        (gfi 25 2 v5 M).bind fun v8 =>
        some v8
        ),
        (
        (gfr 25 3 v5 M).bind fun v9 =>
        (gfi 4 1 v9 M).bind fun v10 =>
        some v10
        )
        ] (
        if w32 x2 < w32 4 then
          j_X1_flight_115 M
        else
          (gfr 25 3 v5 M).bind fun v11 =>
          (gfi 4 1 v11 M).bind fun v12 =>
          if w32 (x2 - 4) < w32 v12 then
            (gfr 25 3 v5 M).bind fun v13 =>
            ck 4 v13 M <| (f_X4_get v13 (x2 - 4) 1 M).bind fun v14 =>
            j_X1_flight_116 v14 M
          else
            j_X1_flight_115 M
        )
    else
      j_X1_flight_15 M
theorem s_X1_flight_116 {g : GG} {d : Nat} (hD : 1 ≤ d) {y0 : Int} {M : MM} {o : AV × MM} {P : (Int) → Prop} (r0 : ∀ r : Int, P r → o = ((0, r), M)) {z : Int} (h : j_X1_flight_116 y0 M = some z) (hz : P z) : Sem g d YX1_flight 116 [(9, 0), (9, 0), (9, 0), (9, 0)] [(0, y0)] M o := by
  delta j_X1_flight_116 at h
  obtain rfl := r0 _ (some_P (P := fun r => P r) h hz)
  exact P_ret dX1_flight_116 rfl (Or.inl rfl)
theorem s_X1_flight_115 {g : GG} {d : Nat} (hD : 1 ≤ d) {M : MM} {o : AV × MM} {P : (Int) → Prop} (r0 : ∀ r : Int, P r → o = ((0, r), M)) {z : Int} (h : j_X1_flight_115 M = some z) (hz : P z) : Sem g d YX1_flight 115 [(9, 0), (9, 0), (9, 0), (9, 0)] [] M o := by
  delta j_X1_flight_115 at h
  refine S_iconst dX1_flight_115 rfl ?_
  exact s_X1_flight_116 hD r0 h hz
theorem s_X1_flight_15 {g : GG} {d : Nat} (hD : 1 ≤ d) {M : MM} {o : AV × MM} {P : (Int) → Prop} (r0 : ∀ r : Int, P r → o = ((0, r), M)) {z : Int} (h : j_X1_flight_15 M = some z) (hz : P z) : Sem g d YX1_flight 15 [(9, 0), (9, 0), (9, 0), (9, 0)] [] M o := by
  delta j_X1_flight_15 at h
  refine S_iconst dX1_flight_15 rfl ?_
  obtain rfl := r0 _ (some_P (P := fun r => P r) h hz)
  exact P_ret dX1_flight_16 rfl (Or.inl rfl)
theorem s_X1_flight_0 {g : GG} {d : Nat} (hD : 1 ≤ d) {x0 x1 x2 : Int} {M : MM} {o : AV × MM} {P : (Int) → Prop} (r0 : ∀ r : Int, P r → o = ((0, r), M)) {z : Int} (h : f_X1_flight x0 x1 x2 M = some z) (hz : P z) : Sem g d YX1_flight 0 [(1, x0), (0, x1), (0, x2), (9, 0)] [] M o := by
  delta f_X1_flight at h
  refine S_iload_n (i := 1) dX1_flight_0 rfl rfl ?_
  refine P_if_lt (tgt := 15) dX1_flight_1 rfl h (fun h => ?_) (fun h => ?_)
  · refine S_weak (ls' := [(9, 0), (9, 0), (9, 0), (9, 0)]) ⟨Or.inl rfl, ⟨Or.inl rfl, ⟨Or.inl rfl, ⟨Or.inl rfl, trivial⟩⟩⟩⟩ ?_
    exact s_X1_flight_15 hD r0 h hz
  · refine S_iload_n (i := 1) dX1_flight_4 rfl rfl ?_
    refine S_aload_n (i := 0) dX1_flight_5 rfl rfl ?_
    refine P_gfr FLX1_78 rfl dX1_flight_6 h (fun v1 h => ?_)
    refine P_gfi FLX1_339 rfl dX1_flight_9 h (fun v2 h => ?_)
    refine P_icmp_lt (tgt := 17) dX1_flight_12 rfl h (fun h => ?_) (fun h => ?_)
    · refine S_aload_n (i := 0) dX1_flight_17 rfl rfl ?_
      refine P_gfr FLX1_78 rfl dX1_flight_18 h (fun v3 h => ?_)
      refine P_gfr FLX1_410 rfl dX1_flight_21 h (fun v4 h => ?_)
      refine S_iload_n (i := 1) dX1_flight_24 rfl rfl ?_
      refine P_lar (t := 5) ⟨by decide, by decide⟩ dX1_flight_25 h (fun v5 h => ?_)
      refine S_astore_n (i := 3) dX1_flight_26 rfl (Nat.le_of_ble_eq_true rfl) rfl rfl ?_
      change Sem g d YX1_flight 27 [(1, x0), (0, x1), (0, x2), (1, v5)] [] M o
      refine S_iload_n (i := 2) dX1_flight_27 rfl rfl ?_
      refine P_swt [60, 65, 70, 75] 83 dX1_flight_28 rfl rfl rfl rfl h ?_ (fun h => ?_)
      · intro i X hX h t ht
        rcases i with _ | i
        · have e1 := Option.some.inj hX
          have e2 := Option.some.inj ht
          subst e1
          subst e2
          refine S_aload_n (i := 3) dX1_flight_60 rfl rfl ?_
          refine P_gfi FLX1_325 rfl dX1_flight_61 h (fun v6 h => ?_)
          obtain rfl := r0 _ (some_P (P := fun r => P r) h hz)
          exact P_ret dX1_flight_64 rfl (Or.inl rfl)
        rcases i with _ | i
        · have e1 := Option.some.inj hX
          have e2 := Option.some.inj ht
          subst e1
          subst e2
          refine S_aload_n (i := 3) dX1_flight_65 rfl rfl ?_
          refine P_gfi FLX1_320 rfl dX1_flight_66 h (fun v7 h => ?_)
          obtain rfl := r0 _ (some_P (P := fun r => P r) h hz)
          exact P_ret dX1_flight_69 rfl (Or.inl rfl)
        rcases i with _ | i
        · have e1 := Option.some.inj hX
          have e2 := Option.some.inj ht
          subst e1
          subst e2
          refine S_aload_n (i := 3) dX1_flight_70 rfl rfl ?_
          refine P_gfi FLX1_414 rfl dX1_flight_71 h (fun v8 h => ?_)
          obtain rfl := r0 _ (some_P (P := fun r => P r) h hz)
          exact P_ret dX1_flight_74 rfl (Or.inl rfl)
        rcases i with _ | i
        · have e1 := Option.some.inj hX
          have e2 := Option.some.inj ht
          subst e1
          subst e2
          refine S_aload_n (i := 3) dX1_flight_75 rfl rfl ?_
          refine P_gfr FLX1_417 rfl dX1_flight_76 h (fun v9 h => ?_)
          refine P_gfi FLX1_278 rfl dX1_flight_79 h (fun v10 h => ?_)
          obtain rfl := r0 _ (some_P (P := fun r => P r) h hz)
          exact P_ret dX1_flight_82 rfl (Or.inl rfl)
        cases hX
      · refine S_iload_n (i := 2) dX1_flight_83 rfl rfl ?_
        refine S_iconst dX1_flight_84 rfl ?_
        refine P_icmp_lt (tgt := 115) dX1_flight_85 rfl h (fun h => ?_) (fun h => ?_)
        · refine S_weak (ls' := [(9, 0), (9, 0), (9, 0), (9, 0)]) ⟨Or.inl rfl, ⟨Or.inl rfl, ⟨Or.inl rfl, ⟨Or.inl rfl, trivial⟩⟩⟩⟩ ?_
          exact s_X1_flight_115 hD r0 h hz
        · refine S_iload_n (i := 2) dX1_flight_88 rfl rfl ?_
          refine S_iconst dX1_flight_89 rfl ?_
          refine S_isub dX1_flight_90 ?_
          refine S_aload_n (i := 3) dX1_flight_91 rfl rfl ?_
          refine P_gfr FLX1_417 rfl dX1_flight_92 h (fun v11 h => ?_)
          refine P_gfi FLX1_278 rfl dX1_flight_95 h (fun v12 h => ?_)
          refine P_icmp_ge (tgt := 115) dX1_flight_98 rfl h (fun h => ?_) (fun h => ?_)
          · refine S_weak (ls' := [(9, 0), (9, 0), (9, 0), (9, 0)]) ⟨Or.inl rfl, ⟨Or.inl rfl, ⟨Or.inl rfl, ⟨Or.inl rfl, trivial⟩⟩⟩⟩ ?_
            exact s_X1_flight_115 hD r0 h hz
          · refine S_aload_n (i := 3) dX1_flight_101 rfl rfl ?_
            refine P_gfr FLX1_417 rfl dX1_flight_102 h (fun v13 h => ?_)
            refine S_iload_n (i := 2) dX1_flight_105 rfl rfl ?_
            refine S_iconst dX1_flight_106 rfl ?_
            refine S_isub dX1_flight_107 ?_
            refine S_iconst dX1_flight_108 rfl ?_
            refine P_invVp 0 [(0, x2 - 4), (0, 1)] [] CVX4_get MLX1_420 dX1_flight_109 rfl rfl rfl rfl rfl (by omega) h (fun r h => F_X4_get (by omega) h) (fun v14 h => ?_)
            refine S_goto (tgt := 116) dX1_flight_112 rfl ?_
            refine S_weak (ls' := [(9, 0), (9, 0), (9, 0), (9, 0)]) ⟨Or.inl rfl, ⟨Or.inl rfl, ⟨Or.inl rfl, ⟨Or.inl rfl, trivial⟩⟩⟩⟩ ?_
            exact s_X1_flight_116 hD r0 h hz
    · refine S_weak (ls' := [(9, 0), (9, 0), (9, 0), (9, 0)]) ⟨Or.inl rfl, ⟨Or.inl rfl, ⟨Or.inl rfl, ⟨Or.inl rfl, trivial⟩⟩⟩⟩ ?_
      exact s_X1_flight_15 hD r0 h hz
theorem F_X1_flight {g : GG} {d : Nat} (hD : 1 ≤ d) {x0 x1 x2 : Int} {M : MM} {r : Int} (h : f_X1_flight x0 x1 x2 M = some r) : Sem g d YX1_flight 0 (ini YX1_flight [(1, x0), (0, x1), (0, x2)]) [] M ((0, r), M) := by
  change Sem g d YX1_flight 0 [(1, x0), (0, x1), (0, x2), (9, 0)] [] M ((0, r), M)
  exact s_X1_flight_0 hD (P := fun x => x = r) (fun q e => by rw [e]) h rfl
/-! PeerSearch$Datagram.<init>()V -/
theorem dX25_init_0 : decode cX25_init 0 = .ok (.aload_n 0, 1) := by decide +kernel
theorem dX25_init_1 : decode cX25_init 1 = .ok (.invokespecial 1, 3) := by decide +kernel
theorem dX25_init_4 : decode cX25_init 4 = .ok (.aload_n 0, 1) := by decide +kernel
theorem dX25_init_5 : decode cX25_init 5 = .ok (.new 7, 3) := by decide +kernel
theorem dX25_init_8 : decode cX25_init 8 = .ok (.dup, 1) := by decide +kernel
theorem dX25_init_9 : decode cX25_init 9 = .ok (.invokespecial 9, 3) := by decide +kernel
theorem dX25_init_12 : decode cX25_init 12 = .ok (.putfield 10, 3) := by decide +kernel
theorem dX25_init_15 : decode cX25_init 15 = .ok (.return_, 1) := by decide +kernel
def f_X25_init (x0 : Int) (M : MM) : Option (MM) :=
  nn x0 <|
  (nob 4 2 28 M).bind fun r1 =>
  nn r1.1 <| (f_X4_init r1.1 r1.2).bind fun M1 =>
  (pfr 25 3 x0 r1.1 M1).bind fun M2 =>
  some M2
theorem s_X25_init_0 {g : GG} {d : Nat} (hD : 2 ≤ d) {x0 : Int} {M : MM} {o : AV × MM} {P : (MM) → Prop} (r0 : ∀ r : MM, P r → o = ((9, 0), r)) {z : MM} (h : f_X25_init x0 M = some z) (hz : P z) : Sem g d YX25_init 0 [(1, x0)] [] M o := by
  delta f_X25_init at h
  refine S_aload_n (i := 0) dX25_init_0 rfl rfl ?_
  refine P_obj q1175 dX25_init_1 rfl (by omega) h (fun h => ?_)
  refine S_aload_n (i := 0) dX25_init_4 rfl rfl ?_
  refine P_nob NLX25_7 rfl dX25_init_5 h (fun r1 h => ?_)
  refine S_dup dX25_init_8 (Nat.le_of_ble_eq_true rfl) ?_
  refine P_invI' [] [(1, r1.1), (1, x0)] CIX4_init MLX25_9 dX25_init_9 rfl rfl rfl rfl (by omega) h (fun r h => F_X4_init (by omega) h) (fun M1 h => ?_)
  refine P_pfr FLX25_10 FPX25_10 (Or.inl ⟨_, rfl⟩) rfl dX25_init_12 h (fun M2 h => ?_)
  obtain rfl := r0 _ (some_P (P := fun r => P r) h hz)
  exact S_return dX25_init_15 rfl
theorem F_X25_init {g : GG} {d : Nat} (hD : 2 ≤ d) {x0 : Int} {M : MM} {r : MM} (h : f_X25_init x0 M = some r) : Sem g d YX25_init 0 (ini YX25_init [(1, x0)]) [] M ((9, 0), r) := by
  change Sem g d YX25_init 0 [(1, x0)] [] M ((9, 0), r)
  exact s_X25_init_0 hD (P := fun x => x = r) (fun q e => by rw [e]) h rfl
/-! PeerSearch$Packet.copy(LPeerSearch$Packet;)V -/
theorem dX4_copy_0 : decode cX4_copy 0 = .ok (.aload_n 0, 1) := by decide +kernel
theorem dX4_copy_1 : decode cX4_copy 1 = .ok (.aload_n 1, 1) := by decide +kernel
theorem dX4_copy_2 : decode cX4_copy 2 = .ok (.getfield 15, 3) := by decide +kernel
theorem dX4_copy_5 : decode cX4_copy 5 = .ok (.putfield 15, 3) := by decide +kernel
theorem dX4_copy_8 : decode cX4_copy 8 = .ok (.aload_n 1, 1) := by decide +kernel
theorem dX4_copy_9 : decode cX4_copy 9 = .ok (.getfield 11, 3) := by decide +kernel
theorem dX4_copy_12 : decode cX4_copy 12 = .ok (.iconst 0, 1) := by decide +kernel
theorem dX4_copy_13 : decode cX4_copy 13 = .ok (.aload_n 0, 1) := by decide +kernel
theorem dX4_copy_14 : decode cX4_copy 14 = .ok (.getfield 11, 3) := by decide +kernel
theorem dX4_copy_17 : decode cX4_copy 17 = .ok (.iconst 0, 1) := by decide +kernel
theorem dX4_copy_18 : decode cX4_copy 18 = .ok (.aload_n 0, 1) := by decide +kernel
theorem dX4_copy_19 : decode cX4_copy 19 = .ok (.getfield 15, 3) := by decide +kernel
theorem dX4_copy_22 : decode cX4_copy 22 = .ok (.invokestatic 37, 3) := by decide +kernel
theorem dX4_copy_25 : decode cX4_copy 25 = .ok (.return_, 1) := by decide +kernel
def f_X4_copy (x0 x1 : Int) (M : MM) : Option (MM) :=
  (gfi 4 1 x1 M).bind fun v1 =>
  (pfi 4 1 x0 v1 M).bind fun M1 =>
  (gfr 4 0 x1 M1).bind fun v2 =>
  (gfr 4 0 x0 M1).bind fun v3 =>
  (gfi 4 1 x0 M1).bind fun v4 =>
  (cpb v2 0 v3 0 v4 M1).bind fun M2 =>
  some M2
theorem s_X4_copy_0 {g : GG} {d : Nat} (hD : 1 ≤ d) {x0 x1 : Int} {M : MM} {o : AV × MM} {P : (MM) → Prop} (r0 : ∀ r : MM, P r → o = ((9, 0), r)) {z : MM} (h : f_X4_copy x0 x1 M = some z) (hz : P z) : Sem g d YX4_copy 0 [(1, x0), (1, x1)] [] M o := by
  delta f_X4_copy at h
  refine S_aload_n (i := 0) dX4_copy_0 rfl rfl ?_
  refine S_aload_n (i := 1) dX4_copy_1 rfl rfl ?_
  refine P_gfi FLX4_15 rfl dX4_copy_2 h (fun v1 h => ?_)
  refine P_pfi FLX4_15 FPX4_15 rfl dX4_copy_5 h (fun M1 h => ?_)
  refine S_aload_n (i := 1) dX4_copy_8 rfl rfl ?_
  refine P_gfr FLX4_11 rfl dX4_copy_9 h (fun v2 h => ?_)
  refine S_iconst dX4_copy_12 rfl ?_
  refine S_aload_n (i := 0) dX4_copy_13 rfl rfl ?_
  refine P_gfr FLX4_11 rfl dX4_copy_14 h (fun v3 h => ?_)
  refine S_iconst dX4_copy_17 rfl ?_
  refine S_aload_n (i := 0) dX4_copy_18 rfl rfl ?_
  refine P_gfi FLX4_15 rfl dX4_copy_19 h (fun v4 h => ?_)
  refine P_cpb q1121 dX4_copy_22 (by omega) rfl h (fun M2 h => ?_)
  obtain rfl := r0 _ (some_P (P := fun r => P r) h hz)
  exact S_return dX4_copy_25 rfl
theorem F_X4_copy {g : GG} {d : Nat} (hD : 1 ≤ d) {x0 x1 : Int} {M : MM} {r : MM} (h : f_X4_copy x0 x1 M = some r) : Sem g d YX4_copy 0 (ini YX4_copy [(1, x0), (1, x1)]) [] M ((9, 0), r) := by
  change Sem g d YX4_copy 0 [(1, x0), (1, x1)] [] M ((9, 0), r)
  exact s_X4_copy_0 hD (P := fun x => x = r) (fun q e => by rw [e]) h rfl
/-! PeerSearch$Net.fly(IIILPeerSearch$Packet;)V -/
theorem dX7_fly_0 : decode cX7_fly 0 = .ok (.aload_n 0, 1) := by decide +kernel
theorem dX7_fly_1 : decode cX7_fly 1 = .ok (.getfield 17, 3) := by decide +kernel
theorem dX7_fly_4 : decode cX7_fly 4 = .ok (.aload_n 0, 1) := by decide +kernel
theorem dX7_fly_5 : decode cX7_fly 5 = .ok (.getfield 38, 3) := by decide +kernel
theorem dX7_fly_8 : decode cX7_fly 8 = .ok (.aaload, 1) := by decide +kernel
theorem dX7_fly_9 : decode cX7_fly 9 = .ok (.ifnonnull 19, 3) := by decide +kernel
theorem dX7_fly_12 : decode cX7_fly 12 = .ok (.aload_n 0, 1) := by decide +kernel
theorem dX7_fly_13 : decode cX7_fly 13 = .ok (.getfield 17, 3) := by decide +kernel
theorem dX7_fly_16 : decode cX7_fly 16 = .ok (.aload_n 0, 1) := by decide +kernel
theorem dX7_fly_17 : decode cX7_fly 17 = .ok (.getfield 38, 3) := by decide +kernel
theorem dX7_fly_20 : decode cX7_fly 20 = .ok (.new 15, 3) := by decide +kernel
theorem dX7_fly_23 : decode cX7_fly 23 = .ok (.dup, 1) := by decide +kernel
theorem dX7_fly_24 : decode cX7_fly 24 = .ok (.invokespecial 42, 3) := by decide +kernel
theorem dX7_fly_27 : decode cX7_fly 27 = .ok (.aastore, 1) := by decide +kernel
theorem dX7_fly_28 : decode cX7_fly 28 = .ok (.aload_n 0, 1) := by decide +kernel
theorem dX7_fly_29 : decode cX7_fly 29 = .ok (.getfield 17, 3) := by decide +kernel
theorem dX7_fly_32 : decode cX7_fly 32 = .ok (.aload_n 0, 1) := by decide +kernel
theorem dX7_fly_33 : decode cX7_fly 33 = .ok (.getfield 38, 3) := by decide +kernel
theorem dX7_fly_36 : decode cX7_fly 36 = .ok (.aaload, 1) := by decide +kernel
theorem dX7_fly_37 : decode cX7_fly 37 = .ok (.astore 5, 2) := by decide +kernel
theorem dX7_fly_39 : decode cX7_fly 39 = .ok (.aload 5, 2) := by decide +kernel
theorem dX7_fly_41 : decode cX7_fly 41 = .ok (.iload_n 1, 1) := by decide +kernel
theorem dX7_fly_42 : decode cX7_fly 42 = .ok (.putfield 43, 3) := by decide +kernel
theorem dX7_fly_45 : decode cX7_fly 45 = .ok (.aload 5, 2) := by decide +kernel
theorem dX7_fly_47 : decode cX7_fly 47 = .ok (.iload_n 2, 1) := by decide +kernel
theorem dX7_fly_48 : decode cX7_fly 48 = .ok (.putfield 46, 3) := by decide +kernel
theorem dX7_fly_51 : decode cX7_fly 51 = .ok (.aload 5, 2) := by decide +kernel
theorem dX7_fly_53 : decode cX7_fly 53 = .ok (.iload_n 3, 1) := by decide +kernel
theorem dX7_fly_54 : decode cX7_fly 54 = .ok (.putfield 49, 3) := by decide +kernel
theorem dX7_fly_57 : decode cX7_fly 57 = .ok (.aload 5, 2) := by decide +kernel
theorem dX7_fly_59 : decode cX7_fly 59 = .ok (.getfield 52, 3) := by decide +kernel
theorem dX7_fly_62 : decode cX7_fly 62 = .ok (.aload 4, 2) := by decide +kernel
theorem dX7_fly_64 : decode cX7_fly 64 = .ok (.invokevirtual 55, 3) := by decide +kernel
theorem dX7_fly_67 : decode cX7_fly 67 = .ok (.aload_n 0, 1) := by decide +kernel
theorem dX7_fly_68 : decode cX7_fly 68 = .ok (.getfield 38, 3) := by decide +kernel
theorem dX7_fly_71 : decode cX7_fly 71 = .ok (.istore 6, 2) := by decide +kernel
theorem dX7_fly_73 : decode cX7_fly 73 = .ok (.iload 6, 2) := by decide +kernel
theorem dX7_fly_75 : decode cX7_fly 75 = .ok (.ifCond .le 41, 3) := by decide +kernel
theorem dX7_fly_78 : decode cX7_fly 78 = .ok (.aload_n 0, 1) := by decide +kernel
theorem dX7_fly_79 : decode cX7_fly 79 = .ok (.getfield 17, 3) := by decide +kernel
theorem dX7_fly_82 : decode cX7_fly 82 = .ok (.iload 6, 2) := by decide +kernel
theorem dX7_fly_84 : decode cX7_fly 84 = .ok (.iconst 1, 1) := by decide +kernel
theorem dX7_fly_85 : decode cX7_fly 85 = .ok (.isub, 1) := by decide +kernel
theorem dX7_fly_86 : decode cX7_fly 86 = .ok (.aaload, 1) := by decide +kernel
theorem dX7_fly_87 : decode cX7_fly 87 = .ok (.getfield 49, 3) := by decide +kernel
theorem dX7_fly_90 : decode cX7_fly 90 = .ok (.iload_n 3, 1) := by decide +kernel
theorem dX7_fly_91 : decode cX7_fly 91 = .ok (.if_icmp .le 25, 3) := by decide +kernel
theorem dX7_fly_94 : decode cX7_fly 94 = .ok (.aload_n 0, 1) := by decide +kernel
theorem dX7_fly_95 : decode cX7_fly 95 = .ok (.getfield 17, 3) := by decide +kernel
theorem dX7_fly_98 : decode cX7_fly 98 = .ok (.iload 6, 2) := by decide +kernel
theorem dX7_fly_100 : decode cX7_fly 100 = .ok (.aload_n 0, 1) := by decide +kernel
theorem dX7_fly_101 : decode cX7_fly 101 = .ok (.getfield 17, 3) := by decide +kernel
theorem dX7_fly_104 : decode cX7_fly 104 = .ok (.iload 6, 2) := by decide +kernel
theorem dX7_fly_106 : decode cX7_fly 106 = .ok (.iconst 1, 1) := by decide +kernel
theorem dX7_fly_107 : decode cX7_fly 107 = .ok (.isub, 1) := by decide +kernel
theorem dX7_fly_108 : decode cX7_fly 108 = .ok (.aaload, 1) := by decide +kernel
theorem dX7_fly_109 : decode cX7_fly 109 = .ok (.aastore, 1) := by decide +kernel
theorem dX7_fly_110 : decode cX7_fly 110 = .ok (.iinc 6 (-1), 3) := by decide +kernel
theorem dX7_fly_113 : decode cX7_fly 113 = .ok (.goto (-40), 3) := by decide +kernel
theorem dX7_fly_116 : decode cX7_fly 116 = .ok (.aload_n 0, 1) := by decide +kernel
theorem dX7_fly_117 : decode cX7_fly 117 = .ok (.getfield 17, 3) := by decide +kernel
theorem dX7_fly_120 : decode cX7_fly 120 = .ok (.iload 6, 2) := by decide +kernel
theorem dX7_fly_122 : decode cX7_fly 122 = .ok (.aload 5, 2) := by decide +kernel
theorem dX7_fly_124 : decode cX7_fly 124 = .ok (.aastore, 1) := by decide +kernel
theorem dX7_fly_125 : decode cX7_fly 125 = .ok (.aload_n 0, 1) := by decide +kernel
theorem dX7_fly_126 : decode cX7_fly 126 = .ok (.dup, 1) := by decide +kernel
theorem dX7_fly_127 : decode cX7_fly 127 = .ok (.getfield 38, 3) := by decide +kernel
theorem dX7_fly_130 : decode cX7_fly 130 = .ok (.iconst 1, 1) := by decide +kernel
theorem dX7_fly_131 : decode cX7_fly 131 = .ok (.iadd, 1) := by decide +kernel
theorem dX7_fly_132 : decode cX7_fly 132 = .ok (.putfield 38, 3) := by decide +kernel
theorem dX7_fly_135 : decode cX7_fly 135 = .ok (.return_, 1) := by decide +kernel
def j_X7_fly_116 (x0 x5 x6 : Int) (M : MM) : Option (MM) :=
  (gfr 7 1 x0 M).bind fun v1 =>
  (sar 5 v1 x6 x5 M).bind fun M1 =>
  (gfi 7 2 x0 M1).bind fun v2 =>
  (pfi 7 2 x0 (v2 + 1) M1).bind fun M2 =>
  some M2
def b_X7_fly_73 (x0 x3 x5 x6 : Int) (M : MM) : Option ((Int × MM) ⊕ (MM)) :=
  if 0 < w32 x6 then
    (gfr 7 1 x0 M).bind fun v1 =>
    (lar 5 v1 (x6 - 1) M).bind fun v2 =>
    (gfi 25 2 v2 M).bind fun v3 =>
    if w32 x3 < w32 v3 then
      (gfr 7 1 x0 M).bind fun v4 =>
      (gfr 7 1 x0 M).bind fun v5 =>
      (lar 5 v5 (x6 - 1) M).bind fun v6 =>
      (sar 5 v4 x6 v6 M).bind fun M1 =>
      cnt (x6 + (-1), M1)
    else
      xit (j_X7_fly_116 x0 x5 x6 M)
  else
    xit (j_X7_fly_116 x0 x5 x6 M)
def l_X7_fly_73 (x0 x3 x5 x6 : Int) (M : MM) : Option (MM) := lpN (fun s : Int × MM => b_X7_fly_73 x0 x3 x5 s.1 s.2) FU (x6, M)
def j_X7_fly_28 (x0 x1 x2 x3 x4 : Int) (M : MM) : Option (MM) :=
  (gfr 7 1 x0 M).bind fun v1 =>
  (gfi 7 2 x0 M).bind fun v2 =>
  (lar 5 v1 v2 M).bind fun v3 =>
  (pfi 25 0 v3 x1 M).bind fun M1 =>
  (pfi 25 1 v3 x2 M1).bind fun M2 =>
  (pfi 25 2 v3 x3 M2).bind fun M3 =>
  (gfr 25 3 v3 M3).bind fun v4 =>
  ck 4 v4 M3 <| (f_X4_copy v4 x4 M3).bind fun M4 =>
  (gfi 7 2 x0 M4).bind fun v5 =>
  l_X7_fly_73 x0 x3 v3 v5 M4
def f_X7_fly (x0 x1 x2 x3 x4 : Int) (M : MM) : Option (MM) :=
  (gfr 7 1 x0 M).bind fun v1 =>
  (gfi 7 2 x0 M).bind fun v2 =>
  (lar 5 v1 v2 M).bind fun v3 =>
  if v3 = -1 then
    (gfr 7 1 x0 M).bind fun v4 =>
    (gfi 7 2 x0 M).bind fun v5 =>
    (nob 25 4 29 M).bind fun r1 =>
    nn r1.1 <| (f_X25_init r1.1 r1.2).bind fun M1 =>
    (sar 5 v4 v5 r1.1 M1).bind fun M2 =>
    j_X7_fly_28 x0 x1 x2 x3 x4 M2
  else
    j_X7_fly_28 x0 x1 x2 x3 x4 M
theorem s_X7_fly_116 {g : GG} {d : Nat} (hD : 3 ≤ d) {x0 x5 x6 : Int} {M : MM} {o : AV × MM} {P : (MM) → Prop} (r0 : ∀ r : MM, P r → o = ((9, 0), r)) {z : MM} (h : j_X7_fly_116 x0 x5 x6 M = some z) (hz : P z) : Sem g d YX7_fly 116 [(1, x0), (9, 0), (9, 0), (9, 0), (9, 0), (1, x5), (0, x6)] [] M o := by
  delta j_X7_fly_116 at h
  refine S_aload_n (i := 0) dX7_fly_116 rfl rfl ?_
  refine P_gfr FLX7_17 rfl dX7_fly_117 h (fun v1 h => ?_)
  refine S_iload dX7_fly_120 rfl ?_
  refine S_aload dX7_fly_122 rfl ?_
  refine P_sar (t := 5) ⟨by decide, by decide⟩ dX7_fly_124 h (fun M1 h => ?_)
  refine S_aload_n (i := 0) dX7_fly_125 rfl rfl ?_
  refine S_dup dX7_fly_126 (Nat.le_of_ble_eq_true rfl) ?_
  refine P_gfi FLX7_38 rfl dX7_fly_127 h (fun v2 h => ?_)
  refine S_iconst dX7_fly_130 rfl ?_
  refine S_iadd dX7_fly_131 ?_
  refine P_pfi FLX7_38 FPX7_38 rfl dX7_fly_132 h (fun M2 h => ?_)
  obtain rfl := r0 _ (some_P (P := fun r => P r) h hz)
  exact S_return dX7_fly_135 rfl
theorem s_X7_fly_73 {g : GG} {d : Nat} (hD : 3 ≤ d) {x0 x3 x5 x6 : Int} {M : MM} {o : AV × MM} {P : ((Int × MM) ⊕ (MM)) → Prop} (c0 : ∀ s : Int × MM, P (.inl s) → Sem g d YX7_fly 73 [(1, x0), (9, 0), (9, 0), (0, x3), (9, 0), (1, x5), (0, s.1)] [] s.2 o) (r0 : ∀ r : MM, P (.inr r) → o = ((9, 0), r)) {z : (Int × MM) ⊕ (MM)} (h : b_X7_fly_73 x0 x3 x5 x6 M = some z) (hz : P z) : Sem g d YX7_fly 73 [(1, x0), (9, 0), (9, 0), (0, x3), (9, 0), (1, x5), (0, x6)] [] M o := by
  delta b_X7_fly_73 at h
  refine S_iload dX7_fly_73 rfl ?_
  refine P_if_le (tgt := 116) dX7_fly_75 rfl h (fun h => ?_) (fun h => ?_)
  · refine S_weak (ls' := [(1, x0), (9, 0), (9, 0), (9, 0), (9, 0), (1, x5), (0, x6)]) ⟨Or.inr rfl, ⟨Or.inl rfl, ⟨Or.inl rfl, ⟨Or.inl rfl, ⟨Or.inl rfl, ⟨Or.inr rfl, ⟨Or.inr rfl, trivial⟩⟩⟩⟩⟩⟩⟩ ?_
    obtain ⟨z0, h, hz⟩ := xit_some' (P := fun r => P r) h hz
    exact s_X7_fly_116 hD (P := fun r => P (.inr r)) r0 h hz
  · refine S_aload_n (i := 0) dX7_fly_78 rfl rfl ?_
    refine P_gfr FLX7_17 rfl dX7_fly_79 h (fun v1 h => ?_)
    refine S_iload dX7_fly_82 rfl ?_
    refine S_iconst dX7_fly_84 rfl ?_
    refine S_isub dX7_fly_85 ?_
    refine P_lar (t := 5) ⟨by decide, by decide⟩ dX7_fly_86 h (fun v2 h => ?_)
    refine P_gfi FLX7_49 rfl dX7_fly_87 h (fun v3 h => ?_)
    refine S_iload_n (i := 3) dX7_fly_90 rfl rfl ?_
    refine P_icmp_le (tgt := 116) dX7_fly_91 rfl h (fun h => ?_) (fun h => ?_)
    · refine S_weak (ls' := [(1, x0), (9, 0), (9, 0), (9, 0), (9, 0), (1, x5), (0, x6)]) ⟨Or.inr rfl, ⟨Or.inl rfl, ⟨Or.inl rfl, ⟨Or.inl rfl, ⟨Or.inl rfl, ⟨Or.inr rfl, ⟨Or.inr rfl, trivial⟩⟩⟩⟩⟩⟩⟩ ?_
      obtain ⟨z0, h, hz⟩ := xit_some' (P := fun r => P r) h hz
      exact s_X7_fly_116 hD (P := fun r => P (.inr r)) r0 h hz
    · refine S_aload_n (i := 0) dX7_fly_94 rfl rfl ?_
      refine P_gfr FLX7_17 rfl dX7_fly_95 h (fun v4 h => ?_)
      refine S_iload dX7_fly_98 rfl ?_
      refine S_aload_n (i := 0) dX7_fly_100 rfl rfl ?_
      refine P_gfr FLX7_17 rfl dX7_fly_101 h (fun v5 h => ?_)
      refine S_iload dX7_fly_104 rfl ?_
      refine S_iconst dX7_fly_106 rfl ?_
      refine S_isub dX7_fly_107 ?_
      refine P_lar (t := 5) ⟨by decide, by decide⟩ dX7_fly_108 h (fun v6 h => ?_)
      refine P_sar (t := 5) ⟨by decide, by decide⟩ dX7_fly_109 h (fun M1 h => ?_)
      refine S_iinc dX7_fly_110 rfl rfl rfl ?_
      change Sem g d YX7_fly 113 [(1, x0), (9, 0), (9, 0), (0, x3), (9, 0), (1, x5), (0, x6 + (-1))] [] M1 o
      refine S_goto (tgt := 73) dX7_fly_113 rfl ?_
      exact c0 (x6 + (-1), M1) (some_P (P := fun r => P r) h hz)
theorem sl_X7_fly_73 {g : GG} {d : Nat} (hD : 3 ≤ d) {x0 x3 x5 x6 : Int} {M : MM} {o : AV × MM} {P : (MM) → Prop} (r0 : ∀ r : MM, P r → o = ((9, 0), r)) {z : MM} (h : l_X7_fly_73 x0 x3 x5 x6 M = some z) (hz : P z) : Sem g d YX7_fly 73 [(1, x0), (9, 0), (9, 0), (0, x3), (9, 0), (1, x5), (0, x6)] [] M o := by
  refine lp_sound (S := fun s : Int × MM => Sem g d YX7_fly 73 [(1, x0), (9, 0), (9, 0), (0, x3), (9, 0), (1, x5), (0, s.1)] [] s.2 o) (P := P) ?_ FU (x6, M) z h hz
  intro s x hx hP
  exact s_X7_fly_73 hD (P := Sum.elim (fun s : Int × MM => Sem g d YX7_fly 73 [(1, x0), (9, 0), (9, 0), (0, x3), (9, 0), (1, x5), (0, s.1)] [] s.2 o) P) (fun s h => h) (fun s h => r0 s h) hx hP
theorem s_X7_fly_28 {g : GG} {d : Nat} (hD : 3 ≤ d) {x0 x1 x2 x3 x4 : Int} {M : MM} {o : AV × MM} {P : (MM) → Prop} (r0 : ∀ r : MM, P r → o = ((9, 0), r)) {z : MM} (h : j_X7_fly_28 x0 x1 x2 x3 x4 M = some z) (hz : P z) : Sem g d YX7_fly 28 [(1, x0), (0, x1), (0, x2), (0, x3), (1, x4), (9, 0), (9, 0)] [] M o := by
  delta j_X7_fly_28 at h
  refine S_aload_n (i := 0) dX7_fly_28 rfl rfl ?_
  refine P_gfr FLX7_17 rfl dX7_fly_29 h (fun v1 h => ?_)
  refine S_aload_n (i := 0) dX7_fly_32 rfl rfl ?_
  refine P_gfi FLX7_38 rfl dX7_fly_33 h (fun v2 h => ?_)
  refine P_lar (t := 5) ⟨by decide, by decide⟩ dX7_fly_36 h (fun v3 h => ?_)
  refine S_astore dX7_fly_37 (Nat.le_of_ble_eq_true rfl) rfl rfl ?_
  change Sem g d YX7_fly 39 [(1, x0), (0, x1), (0, x2), (0, x3), (1, x4), (1, v3), (9, 0)] [] M o
  refine S_aload dX7_fly_39 rfl ?_
  refine S_iload_n (i := 1) dX7_fly_41 rfl rfl ?_
  refine P_pfi FLX7_43 FPX7_43 rfl dX7_fly_42 h (fun M1 h => ?_)
  refine S_aload dX7_fly_45 rfl ?_
  refine S_iload_n (i := 2) dX7_fly_47 rfl rfl ?_
  refine P_pfi FLX7_46 FPX7_46 rfl dX7_fly_48 h (fun M2 h => ?_)
  refine S_aload dX7_fly_51 rfl ?_
  refine S_iload_n (i := 3) dX7_fly_53 rfl rfl ?_
  refine P_pfi FLX7_49 FPX7_49 rfl dX7_fly_54 h (fun M3 h => ?_)
  refine S_aload dX7_fly_57 rfl ?_
  refine P_gfr FLX7_52 rfl dX7_fly_59 h (fun v4 h => ?_)
  refine S_aload dX7_fly_62 rfl ?_
  refine P_invVm' [(1, x4)] [] CVX4_copy MLX7_55 dX7_fly_64 rfl rfl rfl rfl (by omega) h (fun r h => F_X4_copy (by omega) h) (fun M4 h => ?_)
  refine S_aload_n (i := 0) dX7_fly_67 rfl rfl ?_
  refine P_gfi FLX7_38 rfl dX7_fly_68 h (fun v5 h => ?_)
  refine S_istore dX7_fly_71 (Nat.le_of_ble_eq_true rfl) rfl rfl ?_
  change Sem g d YX7_fly 73 [(1, x0), (0, x1), (0, x2), (0, x3), (1, x4), (1, v3), (0, v5)] [] M4 o
  refine S_weak (ls' := [(1, x0), (9, 0), (9, 0), (0, x3), (9, 0), (1, v3), (0, v5)]) ⟨Or.inr rfl, ⟨Or.inl rfl, ⟨Or.inl rfl, ⟨Or.inr rfl, ⟨Or.inl rfl, ⟨Or.inr rfl, ⟨Or.inr rfl, trivial⟩⟩⟩⟩⟩⟩⟩ ?_
  exact sl_X7_fly_73 hD r0 h hz
theorem s_X7_fly_0 {g : GG} {d : Nat} (hD : 3 ≤ d) {x0 x1 x2 x3 x4 : Int} {M : MM} {o : AV × MM} {P : (MM) → Prop} (r0 : ∀ r : MM, P r → o = ((9, 0), r)) {z : MM} (h : f_X7_fly x0 x1 x2 x3 x4 M = some z) (hz : P z) : Sem g d YX7_fly 0 [(1, x0), (0, x1), (0, x2), (0, x3), (1, x4), (9, 0), (9, 0)] [] M o := by
  delta f_X7_fly at h
  refine S_aload_n (i := 0) dX7_fly_0 rfl rfl ?_
  refine P_gfr FLX7_17 rfl dX7_fly_1 h (fun v1 h => ?_)
  refine S_aload_n (i := 0) dX7_fly_4 rfl rfl ?_
  refine P_gfi FLX7_38 rfl dX7_fly_5 h (fun v2 h => ?_)
  refine P_lar (t := 5) ⟨by decide, by decide⟩ dX7_fly_8 h (fun v3 h => ?_)
  refine P_ifnonnull (tgt := 28) dX7_fly_9 rfl h (fun h => ?_) (fun h => ?_)
  · exact s_X7_fly_28 hD r0 h hz
  · refine S_aload_n (i := 0) dX7_fly_12 rfl rfl ?_
    refine P_gfr FLX7_17 rfl dX7_fly_13 h (fun v4 h => ?_)
    refine S_aload_n (i := 0) dX7_fly_16 rfl rfl ?_
    refine P_gfi FLX7_38 rfl dX7_fly_17 h (fun v5 h => ?_)
    refine P_nob NLX7_15 rfl dX7_fly_20 h (fun r1 h => ?_)
    refine S_dup dX7_fly_23 (Nat.le_of_ble_eq_true rfl) ?_
    refine P_invI' [] [(1, r1.1), (0, v5), (1, v4)] CIX25_init MLX7_42 dX7_fly_24 rfl rfl rfl rfl (by omega) h (fun r h => F_X25_init (by omega) h) (fun M1 h => ?_)
    refine P_sar (t := 5) ⟨by decide, by decide⟩ dX7_fly_27 h (fun M2 h => ?_)
    exact s_X7_fly_28 hD r0 h hz
theorem F_X7_fly {g : GG} {d : Nat} (hD : 3 ≤ d) {x0 x1 x2 x3 x4 : Int} {M : MM} {r : MM} (h : f_X7_fly x0 x1 x2 x3 x4 M = some r) : Sem g d YX7_fly 0 (ini YX7_fly [(1, x0), (0, x1), (0, x2), (0, x3), (1, x4)]) [] M ((9, 0), r) := by
  change Sem g d YX7_fly 0 [(1, x0), (0, x1), (0, x2), (0, x3), (1, x4), (9, 0), (9, 0)] [] M ((9, 0), r)
  exact s_X7_fly_0 hD (P := fun x => x = r) (fun q e => by rw [e]) h rfl
/-! PeerSearch$Net.force(IILPeerSearch$Packet;)Z -/
theorem dX7_force_0 : decode cX7_force 0 = .ok (.aload_n 0, 1) := by decide +kernel
theorem dX7_force_1 : decode cX7_force 1 = .ok (.getfield 38, 3) := by decide +kernel
theorem dX7_force_4 : decode cX7_force 4 = .ok (.sipush 400, 3) := by decide +kernel
theorem dX7_force_7 : decode cX7_force 7 = .ok (.if_icmp .ne 5, 3) := by decide +kernel
theorem dX7_force_10 : decode cX7_force 10 = .ok (.iconst 0, 1) := by decide +kernel
theorem dX7_force_11 : decode cX7_force 11 = .ok (.ireturn, 1) := by decide +kernel
theorem dX7_force_12 : decode cX7_force 12 = .ok (.aload_n 0, 1) := by decide +kernel
theorem dX7_force_13 : decode cX7_force 13 = .ok (.iload_n 1, 1) := by decide +kernel
theorem dX7_force_14 : decode cX7_force 14 = .ok (.iload_n 2, 1) := by decide +kernel
theorem dX7_force_15 : decode cX7_force 15 = .ok (.aload_n 0, 1) := by decide +kernel
theorem dX7_force_16 : decode cX7_force 16 = .ok (.getfield 59, 3) := by decide +kernel
theorem dX7_force_19 : decode cX7_force 19 = .ok (.iconst 1, 1) := by decide +kernel
theorem dX7_force_20 : decode cX7_force 20 = .ok (.iadd, 1) := by decide +kernel
theorem dX7_force_21 : decode cX7_force 21 = .ok (.aload_n 3, 1) := by decide +kernel
theorem dX7_force_22 : decode cX7_force 22 = .ok (.invokevirtual 72, 3) := by decide +kernel
theorem dX7_force_25 : decode cX7_force 25 = .ok (.iconst 1, 1) := by decide +kernel
theorem dX7_force_26 : decode cX7_force 26 = .ok (.ireturn, 1) := by decide +kernel
def f_X7_force (x0 x1 x2 x3 : Int) (M : MM) : Option (Int × MM) :=
  (gfi 7 2 x0 M).bind fun v1 =>
  if w32 v1 = w32 400 then
    some (0, M)
  else
    (gfi 7 3 x0 M).bind fun v2 =>
    ck 7 x0 M <| (f_X7_fly x0 x1 x2 (v2 + 1) x3 M).bind fun M1 =>
    some (1, M1)
theorem s_X7_force_0 {g : GG} {d : Nat} (hD : 4 ≤ d) {x0 x1 x2 x3 : Int} {M : MM} {o : AV × MM} {P : (Int × MM) → Prop} (r0 : ∀ r : Int × MM, P r → o = ((0, r.1), r.2)) {z : Int × MM} (h : f_X7_force x0 x1 x2 x3 M = some z) (hz : P z) : Sem g d YX7_force 0 [(1, x0), (0, x1), (0, x2), (1, x3)] [] M o := by
  delta f_X7_force at h
  refine S_aload_n (i := 0) dX7_force_0 rfl rfl ?_
  refine P_gfi FLX7_38 rfl dX7_force_1 h (fun v1 h => ?_)
  refine S_sipush (z := 400) dX7_force_4 rfl ?_
  refine P_icmp_ne (tgt := 12) dX7_force_7 rfl h (fun h => ?_) (fun h => ?_)
  · refine S_aload_n (i := 0) dX7_force_12 rfl rfl ?_
    refine S_iload_n (i := 1) dX7_force_13 rfl rfl ?_
    refine S_iload_n (i := 2) dX7_force_14 rfl rfl ?_
    refine S_aload_n (i := 0) dX7_force_15 rfl rfl ?_
    refine P_gfi FLX7_59 rfl dX7_force_16 h (fun v2 h => ?_)
    refine S_iconst dX7_force_19 rfl ?_
    refine S_iadd dX7_force_20 ?_
    refine S_aload_n (i := 3) dX7_force_21 rfl rfl ?_
    refine P_invVm' [(0, x1), (0, x2), (0, v2 + 1), (1, x3)] [] CVX7_fly MLX7_72 dX7_force_22 rfl rfl rfl rfl (by omega) h (fun r h => F_X7_fly (by omega) h) (fun M1 h => ?_)
    refine S_iconst dX7_force_25 rfl ?_
    obtain rfl := r0 _ (some_P (P := fun r => P r) h hz)
    exact P_ret dX7_force_26 rfl (Or.inr ⟨rfl, Or.inr rfl⟩)
  · refine S_iconst dX7_force_10 rfl ?_
    obtain rfl := r0 _ (some_P (P := fun r => P r) h hz)
    exact P_ret dX7_force_11 rfl (Or.inr ⟨rfl, Or.inl rfl⟩)
theorem F_X7_force {g : GG} {d : Nat} (hD : 4 ≤ d) {x0 x1 x2 x3 : Int} {M : MM} {r : Int × MM} (h : f_X7_force x0 x1 x2 x3 M = some r) : Sem g d YX7_force 0 (ini YX7_force [(1, x0), (0, x1), (0, x2), (1, x3)]) [] M ((0, r.1), r.2) := by
  change Sem g d YX7_force 0 [(1, x0), (0, x1), (0, x2), (1, x3)] [] M ((0, r.1), r.2)
  exact s_X7_force_0 hD (P := fun x => x = r) (fun q e => by rw [e]) h rfl
/-! PeerSearch.forge(II)Z -/
theorem dX1_forge_0 : decode cX1_forge 0 = .ok (.aload_n 0, 1) := by decide +kernel
theorem dX1_forge_1 : decode cX1_forge 1 = .ok (.invokevirtual 123, 3) := by decide +kernel
theorem dX1_forge_4 : decode cX1_forge 4 = .ok (.istore_n 3, 1) := by decide +kernel
theorem dX1_forge_5 : decode cX1_forge 5 = .ok (.aload_n 0, 1) := by decide +kernel
theorem dX1_forge_6 : decode cX1_forge 6 = .ok (.iload_n 1, 1) := by decide +kernel
theorem dX1_forge_7 : decode cX1_forge 7 = .ok (.invokevirtual 113, 3) := by decide +kernel
theorem dX1_forge_10 : decode cX1_forge 10 = .ok (.ifCond .eq 18, 3) := by decide +kernel
theorem dX1_forge_13 : decode cX1_forge 13 = .ok (.aload_n 0, 1) := by decide +kernel
theorem dX1_forge_14 : decode cX1_forge 14 = .ok (.iload_n 2, 1) := by decide +kernel
theorem dX1_forge_15 : decode cX1_forge 15 = .ok (.invokevirtual 113, 3) := by decide +kernel
theorem dX1_forge_18 : decode cX1_forge 18 = .ok (.ifCond .eq 10, 3) := by decide +kernel
theorem dX1_forge_21 : decode cX1_forge 21 = .ok (.iload_n 3, 1) := by decide +kernel
theorem dX1_forge_22 : decode cX1_forge 22 = .ok (.sipush 460, 3) := by decide +kernel
theorem dX1_forge_25 : decode cX1_forge 25 = .ok (.if_icmp .le 5, 3) := by decide +kernel
theorem dX1_forge_28 : decode cX1_forge 28 = .ok (.iconst 0, 1) := by decide +kernel
theorem dX1_forge_29 : decode cX1_forge 29 = .ok (.ireturn, 1) := by decide +kernel
theorem dX1_forge_30 : decode cX1_forge 30 = .ok (.aload_n 0, 1) := by decide +kernel
theorem dX1_forge_31 : decode cX1_forge 31 = .ok (.getfield 48, 3) := by decide +kernel
theorem dX1_forge_34 : decode cX1_forge 34 = .ok (.iload_n 3, 1) := by decide +kernel
theorem dX1_forge_35 : decode cX1_forge 35 = .ok (.putfield 278, 3) := by decide +kernel
theorem dX1_forge_38 : decode cX1_forge 38 = .ok (.iconst 0, 1) := by decide +kernel
theorem dX1_forge_39 : decode cX1_forge 39 = .ok (.istore 4, 2) := by decide +kernel
theorem dX1_forge_41 : decode cX1_forge 41 = .ok (.iload 4, 2) := by decide +kernel
theorem dX1_forge_43 : decode cX1_forge 43 = .ok (.iload_n 3, 1) := by decide +kernel
theorem dX1_forge_44 : decode cX1_forge 44 = .ok (.if_icmp .ge 26, 3) := by decide +kernel
theorem dX1_forge_47 : decode cX1_forge 47 = .ok (.aload_n 0, 1) := by decide +kernel
theorem dX1_forge_48 : decode cX1_forge 48 = .ok (.getfield 48, 3) := by decide +kernel
theorem dX1_forge_51 : decode cX1_forge 51 = .ok (.getfield 281, 3) := by decide +kernel
theorem dX1_forge_54 : decode cX1_forge 54 = .ok (.iload 4, 2) := by decide +kernel
theorem dX1_forge_56 : decode cX1_forge 56 = .ok (.aload_n 0, 1) := by decide +kernel
theorem dX1_forge_57 : decode cX1_forge 57 = .ok (.getfield 13, 3) := by decide +kernel
theorem dX1_forge_60 : decode cX1_forge 60 = .ok (.iload 4, 2) := by decide +kernel
theorem dX1_forge_62 : decode cX1_forge 62 = .ok (.baload, 1) := by decide +kernel
theorem dX1_forge_63 : decode cX1_forge 63 = .ok (.bastore, 1) := by decide +kernel
theorem dX1_forge_64 : decode cX1_forge 64 = .ok (.iinc 4 1, 3) := by decide +kernel
theorem dX1_forge_67 : decode cX1_forge 67 = .ok (.goto (-26), 3) := by decide +kernel
theorem dX1_forge_70 : decode cX1_forge 70 = .ok (.aload_n 0, 1) := by decide +kernel
theorem dX1_forge_71 : decode cX1_forge 71 = .ok (.getfield 78, 3) := by decide +kernel
theorem dX1_forge_74 : decode cX1_forge 74 = .ok (.iload_n 1, 1) := by decide +kernel
theorem dX1_forge_75 : decode cX1_forge 75 = .ok (.iload_n 2, 1) := by decide +kernel
theorem dX1_forge_76 : decode cX1_forge 76 = .ok (.aload_n 0, 1) := by decide +kernel
theorem dX1_forge_77 : decode cX1_forge 77 = .ok (.getfield 48, 3) := by decide +kernel
theorem dX1_forge_80 : decode cX1_forge 80 = .ok (.invokevirtual 284, 3) := by decide +kernel
theorem dX1_forge_83 : decode cX1_forge 83 = .ok (.ireturn, 1) := by decide +kernel
def j_X1_forge_70 (x0 x1 x2 : Int) (M : MM) : Option (Int × MM) :=
  (gfr 1 1 x0 M).bind fun v1 =>
  (gfr 1 11 x0 M).bind fun v2 =>
  ck 7 v1 M <| (f_X7_force v1 x1 x2 v2 M).bind fun r1 =>
  bz r1.1 (some (r1.1, r1.2))
def b_X1_forge_41 (x0 x1 x2 x3 x4 : Int) (M : MM) : Option ((Int × MM) ⊕ (Int × MM)) :=
  if w32 x4 < w32 x3 then
    (gfr 1 11 x0 M).bind fun v1 =>
    (gfr 4 0 v1 M).bind fun v2 =>
    (gfr 1 3 x0 M).bind fun v3 =>
    (lab v3 x4 M).bind fun v4 =>
    (sab v2 x4 v4 M).bind fun M1 =>
    cnt (x4 + 1, M1)
  else
    xit (j_X1_forge_70 x0 x1 x2 M)
def l_X1_forge_41 (x0 x1 x2 x3 x4 : Int) (M : MM) : Option (Int × MM) := lpN (fun s : Int × MM => b_X1_forge_41 x0 x1 x2 x3 s.1 s.2) FU (x4, M)
def j_X1_forge_28 (M : MM) : Option (Int × MM) :=
  some (0, M)
def f_X1_forge (x0 x1 x2 : Int) (M : MM) : Option (Int × MM) :=
  ck 1 x0 M <| (f_X1_take x0 M).bind fun r1 =>
  ck 1 x0 r1.2 <| (f_X1_has x0 x1 r1.2).bind fun v1 =>
  if w32 v1 = 0 then
    j_X1_forge_28 r1.2
  else
    ck 1 x0 r1.2 <| (f_X1_has x0 x2 r1.2).bind fun v2 =>
    if w32 v2 = 0 then
      j_X1_forge_28 r1.2
    else
      if w32 460 < w32 r1.1 then
        j_X1_forge_28 r1.2
      else
        (gfr 1 11 x0 r1.2).bind fun v3 =>
        (pfi 4 1 v3 r1.1 r1.2).bind fun M1 =>
        l_X1_forge_41 x0 x1 x2 r1.1 0 M1
theorem s_X1_forge_70 {g : GG} {d : Nat} (hD : 5 ≤ d) {x0 x1 x2 : Int} {M : MM} {o : AV × MM} {P : (Int × MM) → Prop} (r0 : ∀ r : Int × MM, P r → o = ((0, r.1), r.2)) {z : Int × MM} (h : j_X1_forge_70 x0 x1 x2 M = some z) (hz : P z) : Sem g d YX1_forge 70 [(1, x0), (0, x1), (0, x2), (9, 0), (9, 0)] [] M o := by
  delta j_X1_forge_70 at h
  refine S_aload_n (i := 0) dX1_forge_70 rfl rfl ?_
  refine P_gfr FLX1_78 rfl dX1_forge_71 h (fun v1 h => ?_)
  refine S_iload_n (i := 1) dX1_forge_74 rfl rfl ?_
  refine S_iload_n (i := 2) dX1_forge_75 rfl rfl ?_
  refine S_aload_n (i := 0) dX1_forge_76 rfl rfl ?_
  refine P_gfr FLX1_48 rfl dX1_forge_77 h (fun v2 h => ?_)
  refine P_invVe 0 [(0, x1), (0, x2), (1, v2)] [] CVX7_force MLX1_284 dX1_forge_80 rfl rfl rfl rfl rfl (by omega) h (fun r h => F_X7_force (by omega) h) (fun r1 h => ?_)
  obtain ⟨hb, h⟩ := bz_some h
  obtain rfl := r0 _ (some_P (P := fun r => P r) h hz)
  exact P_ret dX1_forge_83 rfl (Or.inr ⟨rfl, hb⟩)
theorem s_X1_forge_41 {g : GG} {d : Nat} (hD : 5 ≤ d) {x0 x1 x2 x3 x4 : Int} {M : MM} {o : AV × MM} {P : ((Int × MM) ⊕ (Int × MM)) → Prop} (c0 : ∀ s : Int × MM, P (.inl s) → Sem g d YX1_forge 41 [(1, x0), (0, x1), (0, x2), (0, x3), (0, s.1)] [] s.2 o) (r0 : ∀ r : Int × MM, P (.inr r) → o = ((0, r.1), r.2)) {z : (Int × MM) ⊕ (Int × MM)} (h : b_X1_forge_41 x0 x1 x2 x3 x4 M = some z) (hz : P z) : Sem g d YX1_forge 41 [(1, x0), (0, x1), (0, x2), (0, x3), (0, x4)] [] M o := by
  delta b_X1_forge_41 at h
  refine S_iload dX1_forge_41 rfl ?_
  refine S_iload_n (i := 3) dX1_forge_43 rfl rfl ?_
  refine P_icmp_ge (tgt := 70) dX1_forge_44 rfl h (fun h => ?_) (fun h => ?_)
  · refine S_weak (ls' := [(1, x0), (0, x1), (0, x2), (9, 0), (9, 0)]) ⟨Or.inr rfl, ⟨Or.inr rfl, ⟨Or.inr rfl, ⟨Or.inl rfl, ⟨Or.inl rfl, trivial⟩⟩⟩⟩⟩ ?_
    obtain ⟨z0, h, hz⟩ := xit_some' (P := fun r => P r) h hz
    exact s_X1_forge_70 hD (P := fun r => P (.inr r)) r0 h hz
  · refine S_aload_n (i := 0) dX1_forge_47 rfl rfl ?_
    refine P_gfr FLX1_48 rfl dX1_forge_48 h (fun v1 h => ?_)
    refine P_gfr FLX1_281 rfl dX1_forge_51 h (fun v2 h => ?_)
    refine S_iload dX1_forge_54 rfl ?_
    refine S_aload_n (i := 0) dX1_forge_56 rfl rfl ?_
    refine P_gfr FLX1_13 rfl dX1_forge_57 h (fun v3 h => ?_)
    refine S_iload dX1_forge_60 rfl ?_
    refine P_lab dX1_forge_62 h (fun v4 h => ?_)
    refine P_sab dX1_forge_63 h (fun M1 h => ?_)
    refine S_iinc dX1_forge_64 rfl rfl rfl ?_
    change Sem g d YX1_forge 67 [(1, x0), (0, x1), (0, x2), (0, x3), (0, x4 + 1)] [] M1 o
    refine S_goto (tgt := 41) dX1_forge_67 rfl ?_
    exact c0 (x4 + 1, M1) (some_P (P := fun r => P r) h hz)
theorem sl_X1_forge_41 {g : GG} {d : Nat} (hD : 5 ≤ d) {x0 x1 x2 x3 x4 : Int} {M : MM} {o : AV × MM} {P : (Int × MM) → Prop} (r0 : ∀ r : Int × MM, P r → o = ((0, r.1), r.2)) {z : Int × MM} (h : l_X1_forge_41 x0 x1 x2 x3 x4 M = some z) (hz : P z) : Sem g d YX1_forge 41 [(1, x0), (0, x1), (0, x2), (0, x3), (0, x4)] [] M o := by
  refine lp_sound (S := fun s : Int × MM => Sem g d YX1_forge 41 [(1, x0), (0, x1), (0, x2), (0, x3), (0, s.1)] [] s.2 o) (P := P) ?_ FU (x4, M) z h hz
  intro s x hx hP
  exact s_X1_forge_41 hD (P := Sum.elim (fun s : Int × MM => Sem g d YX1_forge 41 [(1, x0), (0, x1), (0, x2), (0, x3), (0, s.1)] [] s.2 o) P) (fun s h => h) (fun s h => r0 s h) hx hP
theorem s_X1_forge_28 {g : GG} {d : Nat} (hD : 5 ≤ d) {M : MM} {o : AV × MM} {P : (Int × MM) → Prop} (r0 : ∀ r : Int × MM, P r → o = ((0, r.1), r.2)) {z : Int × MM} (h : j_X1_forge_28 M = some z) (hz : P z) : Sem g d YX1_forge 28 [(9, 0), (9, 0), (9, 0), (9, 0), (9, 0)] [] M o := by
  delta j_X1_forge_28 at h
  refine S_iconst dX1_forge_28 rfl ?_
  obtain rfl := r0 _ (some_P (P := fun r => P r) h hz)
  exact P_ret dX1_forge_29 rfl (Or.inr ⟨rfl, Or.inl rfl⟩)
theorem s_X1_forge_0 {g : GG} {d : Nat} (hD : 5 ≤ d) {x0 x1 x2 : Int} {M : MM} {o : AV × MM} {P : (Int × MM) → Prop} (r0 : ∀ r : Int × MM, P r → o = ((0, r.1), r.2)) {z : Int × MM} (h : f_X1_forge x0 x1 x2 M = some z) (hz : P z) : Sem g d YX1_forge 0 [(1, x0), (0, x1), (0, x2), (9, 0), (9, 0)] [] M o := by
  delta f_X1_forge at h
  refine S_aload_n (i := 0) dX1_forge_0 rfl rfl ?_
  refine P_invVe 0 [] [] CVX1_take MLX1_123 dX1_forge_1 rfl rfl rfl rfl rfl (by omega) h (fun r h => F_X1_take (by omega) h) (fun r1 h => ?_)
  refine S_istore_n (i := 3) dX1_forge_4 rfl (Nat.le_of_ble_eq_true rfl) rfl rfl ?_
  change Sem g d YX1_forge 5 [(1, x0), (0, x1), (0, x2), (0, r1.1), (9, 0)] [] r1.2 o
  refine S_aload_n (i := 0) dX1_forge_5 rfl rfl ?_
  refine S_iload_n (i := 1) dX1_forge_6 rfl rfl ?_
  refine P_invVp 0 [(0, x1)] [] CVX1_has MLX1_113 dX1_forge_7 rfl rfl rfl rfl rfl (by omega) h (fun r h => F_X1_has (by omega) h) (fun v1 h => ?_)
  refine P_if_eq (tgt := 28) dX1_forge_10 rfl h (fun h => ?_) (fun h => ?_)
  · refine S_weak (ls' := [(9, 0), (9, 0), (9, 0), (9, 0), (9, 0)]) ⟨Or.inl rfl, ⟨Or.inl rfl, ⟨Or.inl rfl, ⟨Or.inl rfl, ⟨Or.inl rfl, trivial⟩⟩⟩⟩⟩ ?_
    exact s_X1_forge_28 hD r0 h hz
  · refine S_aload_n (i := 0) dX1_forge_13 rfl rfl ?_
    refine S_iload_n (i := 2) dX1_forge_14 rfl rfl ?_
    refine P_invVp 0 [(0, x2)] [] CVX1_has MLX1_113 dX1_forge_15 rfl rfl rfl rfl rfl (by omega) h (fun r h => F_X1_has (by omega) h) (fun v2 h => ?_)
    refine P_if_eq (tgt := 28) dX1_forge_18 rfl h (fun h => ?_) (fun h => ?_)
    · refine S_weak (ls' := [(9, 0), (9, 0), (9, 0), (9, 0), (9, 0)]) ⟨Or.inl rfl, ⟨Or.inl rfl, ⟨Or.inl rfl, ⟨Or.inl rfl, ⟨Or.inl rfl, trivial⟩⟩⟩⟩⟩ ?_
      exact s_X1_forge_28 hD r0 h hz
    · refine S_iload_n (i := 3) dX1_forge_21 rfl rfl ?_
      refine S_sipush (z := 460) dX1_forge_22 rfl ?_
      refine P_icmp_le (tgt := 30) dX1_forge_25 rfl h (fun h => ?_) (fun h => ?_)
      · refine S_aload_n (i := 0) dX1_forge_30 rfl rfl ?_
        refine P_gfr FLX1_48 rfl dX1_forge_31 h (fun v3 h => ?_)
        refine S_iload_n (i := 3) dX1_forge_34 rfl rfl ?_
        refine P_pfi FLX1_278 FPX1_278 rfl dX1_forge_35 h (fun M1 h => ?_)
        refine S_iconst dX1_forge_38 rfl ?_
        refine S_istore dX1_forge_39 (Nat.le_of_ble_eq_true rfl) rfl rfl ?_
        change Sem g d YX1_forge 41 [(1, x0), (0, x1), (0, x2), (0, r1.1), (0, 0)] [] M1 o
        exact sl_X1_forge_41 hD r0 h hz
      · refine S_weak (ls' := [(9, 0), (9, 0), (9, 0), (9, 0), (9, 0)]) ⟨Or.inl rfl, ⟨Or.inl rfl, ⟨Or.inl rfl, ⟨Or.inl rfl, ⟨Or.inl rfl, trivial⟩⟩⟩⟩⟩ ?_
        exact s_X1_forge_28 hD r0 h hz
theorem F_X1_forge {g : GG} {d : Nat} (hD : 5 ≤ d) {x0 x1 x2 : Int} {M : MM} {r : Int × MM} (h : f_X1_forge x0 x1 x2 M = some r) : Sem g d YX1_forge 0 (ini YX1_forge [(1, x0), (0, x1), (0, x2)]) [] M ((0, r.1), r.2) := by
  change Sem g d YX1_forge 0 [(1, x0), (0, x1), (0, x2), (9, 0), (9, 0)] [] M ((0, r.1), r.2)
  exact s_X1_forge_0 hD (P := fun x => x = r) (fun q e => by rw [e]) h rfl
/-! PeerSearch.isTask(I)Z -/
theorem dX1_isTask_0 : decode cX1_isTask 0 = .ok (.iload_n 1, 1) := by decide +kernel
theorem dX1_isTask_1 : decode cX1_isTask 1 = .ok (.ifCond .lt 15, 3) := by decide +kernel
theorem dX1_isTask_4 : decode cX1_isTask 4 = .ok (.iload_n 1, 1) := by decide +kernel
theorem dX1_isTask_5 : decode cX1_isTask 5 = .ok (.aload_n 0, 1) := by decide +kernel
theorem dX1_isTask_6 : decode cX1_isTask 6 = .ok (.getfield 155, 3) := by decide +kernel
theorem dX1_isTask_9 : decode cX1_isTask 9 = .ok (.if_icmp .ge 7, 3) := by decide +kernel
theorem dX1_isTask_12 : decode cX1_isTask 12 = .ok (.iconst 1, 1) := by decide +kernel
theorem dX1_isTask_13 : decode cX1_isTask 13 = .ok (.goto 4, 3) := by decide +kernel
theorem dX1_isTask_16 : decode cX1_isTask 16 = .ok (.iconst 0, 1) := by decide +kernel
theorem dX1_isTask_17 : decode cX1_isTask 17 = .ok (.ireturn, 1) := by decide +kernel
def j_X1_isTask_17 (y0 : Int) (M : MM) : Option (Int) :=
  bz y0 (some y0)
def j_X1_isTask_16 (M : MM) : Option (Int) :=
  j_X1_isTask_17 0 M
def f_X1_isTask (x0 x1 : Int) (M : MM) : Option (Int) :=
  if w32 x1 < 0 then
    j_X1_isTask_16 M
  else
    (gfi 1 8 x0 M).bind fun v1 =>
    if w32 x1 < w32 v1 then
      j_X1_isTask_17 1 M
    else
      j_X1_isTask_16 M
theorem s_X1_isTask_17 {g : GG} {d : Nat} (hD : 0 ≤ d) {y0 : Int} {M : MM} {o : AV × MM} {P : (Int) → Prop} (r0 : ∀ r : Int, P r → o = ((0, r), M)) {z : Int} (h : j_X1_isTask_17 y0 M = some z) (hz : P z) : Sem g d YX1_isTask 17 [(9, 0), (9, 0)] [(0, y0)] M o := by
  delta j_X1_isTask_17 at h
  obtain ⟨hb, h⟩ := bz_some h
  obtain rfl := r0 _ (some_P (P := fun r => P r) h hz)
  exact P_ret dX1_isTask_17 rfl (Or.inr ⟨rfl, hb⟩)
theorem s_X1_isTask_16 {g : GG} {d : Nat} (hD : 0 ≤ d) {M : MM} {o : AV × MM} {P : (Int) → Prop} (r0 : ∀ r : Int, P r → o = ((0, r), M)) {z : Int} (h : j_X1_isTask_16 M = some z) (hz : P z) : Sem g d YX1_isTask 16 [(9, 0), (9, 0)] [] M o := by
  delta j_X1_isTask_16 at h
  refine S_iconst dX1_isTask_16 rfl ?_
  exact s_X1_isTask_17 hD r0 h hz
theorem s_X1_isTask_0 {g : GG} {d : Nat} (hD : 0 ≤ d) {x0 x1 : Int} {M : MM} {o : AV × MM} {P : (Int) → Prop} (r0 : ∀ r : Int, P r → o = ((0, r), M)) {z : Int} (h : f_X1_isTask x0 x1 M = some z) (hz : P z) : Sem g d YX1_isTask 0 [(1, x0), (0, x1)] [] M o := by
  delta f_X1_isTask at h
  refine S_iload_n (i := 1) dX1_isTask_0 rfl rfl ?_
  refine P_if_lt (tgt := 16) dX1_isTask_1 rfl h (fun h => ?_) (fun h => ?_)
  · refine S_weak (ls' := [(9, 0), (9, 0)]) ⟨Or.inl rfl, ⟨Or.inl rfl, trivial⟩⟩ ?_
    exact s_X1_isTask_16 hD r0 h hz
  · refine S_iload_n (i := 1) dX1_isTask_4 rfl rfl ?_
    refine S_aload_n (i := 0) dX1_isTask_5 rfl rfl ?_
    refine P_gfi FLX1_155 rfl dX1_isTask_6 h (fun v1 h => ?_)
    refine P_icmp_ge (tgt := 16) dX1_isTask_9 rfl h (fun h => ?_) (fun h => ?_)
    · refine S_weak (ls' := [(9, 0), (9, 0)]) ⟨Or.inl rfl, ⟨Or.inl rfl, trivial⟩⟩ ?_
      exact s_X1_isTask_16 hD r0 h hz
    · refine S_iconst dX1_isTask_12 rfl ?_
      refine S_goto (tgt := 17) dX1_isTask_13 rfl ?_
      refine S_weak (ls' := [(9, 0), (9, 0)]) ⟨Or.inl rfl, ⟨Or.inl rfl, trivial⟩⟩ ?_
      exact s_X1_isTask_17 hD r0 h hz
theorem F_X1_isTask {g : GG} {d : Nat} (hD : 0 ≤ d) {x0 x1 : Int} {M : MM} {r : Int} (h : f_X1_isTask x0 x1 M = some r) : Sem g d YX1_isTask 0 (ini YX1_isTask [(1, x0), (0, x1)]) [] M ((0, r), M) := by
  change Sem g d YX1_isTask 0 [(1, x0), (0, x1)] [] M ((0, r), M)
  exact s_X1_isTask_0 hD (P := fun x => x = r) (fun q e => by rw [e]) h rfl
/-! PeerSearch$Task.found(II)I -/
theorem dX26_found_0 : decode cX26_found 0 = .ok (.aload_n 0, 1) := by decide +kernel
theorem dX26_found_1 : decode cX26_found 1 = .ok (.getfield 26, 3) := by decide +kernel
theorem dX26_found_4 : decode cX26_found 4 = .ok (.iconst 1, 1) := by decide +kernel
theorem dX26_found_5 : decode cX26_found 5 = .ok (.if_icmp .ne 50, 3) := by decide +kernel
theorem dX26_found_8 : decode cX26_found 8 = .ok (.aload_n 0, 1) := by decide +kernel
theorem dX26_found_9 : decode cX26_found 9 = .ok (.getfield 22, 3) := by decide +kernel
theorem dX26_found_12 : decode cX26_found 12 = .ok (.ifnull 43, 3) := by decide +kernel
theorem dX26_found_15 : decode cX26_found 15 = .ok (.iload_n 1, 1) := by decide +kernel
theorem dX26_found_16 : decode cX26_found 16 = .ok (.ifCond .lt 39, 3) := by decide +kernel
theorem dX26_found_19 : decode cX26_found 19 = .ok (.iload_n 1, 1) := by decide +kernel
theorem dX26_found_20 : decode cX26_found 20 = .ok (.aload_n 0, 1) := by decide +kernel
theorem dX26_found_21 : decode cX26_found 21 = .ok (.getfield 16, 3) := by decide +kernel
theorem dX26_found_24 : decode cX26_found 24 = .ok (.if_icmp .ge 31, 3) := by decide +kernel
theorem dX26_found_27 : decode cX26_found 27 = .ok (.iload_n 2, 1) := by decide +kernel
theorem dX26_found_28 : decode cX26_found 28 = .ok (.ifCond .lt 27, 3) := by decide +kernel
theorem dX26_found_31 : decode cX26_found 31 = .ok (.iload_n 2, 1) := by decide +kernel
theorem dX26_found_32 : decode cX26_found 32 = .ok (.aload_n 0, 1) := by decide +kernel
theorem dX26_found_33 : decode cX26_found 33 = .ok (.getfield 19, 3) := by decide +kernel
theorem dX26_found_36 : decode cX26_found 36 = .ok (.if_icmp .ge 19, 3) := by decide +kernel
theorem dX26_found_39 : decode cX26_found 39 = .ok (.aload_n 0, 1) := by decide +kernel
theorem dX26_found_40 : decode cX26_found 40 = .ok (.getfield 22, 3) := by decide +kernel
theorem dX26_found_43 : decode cX26_found 43 = .ok (.aload_n 0, 1) := by decide +kernel
theorem dX26_found_44 : decode cX26_found 44 = .ok (.getfield 19, 3) := by decide +kernel
theorem dX26_found_47 : decode cX26_found 47 = .ok (.iload_n 1, 1) := by decide +kernel
theorem dX26_found_48 : decode cX26_found 48 = .ok (.imul, 1) := by decide +kernel
theorem dX26_found_49 : decode cX26_found 49 = .ok (.iload_n 2, 1) := by decide +kernel
theorem dX26_found_50 : decode cX26_found 50 = .ok (.iadd, 1) := by decide +kernel
theorem dX26_found_51 : decode cX26_found 51 = .ok (.iaload, 1) := by decide +kernel
theorem dX26_found_52 : decode cX26_found 52 = .ok (.goto 4, 3) := by decide +kernel
theorem dX26_found_55 : decode cX26_found 55 = .ok (.iconst 0, 1) := by decide +kernel
theorem dX26_found_56 : decode cX26_found 56 = .ok (.ireturn, 1) := by decide +kernel
def j_X26_found_56 (y0 : Int) (M : MM) : Option (Int) :=
  some y0
def j_X26_found_55 (M : MM) : Option (Int) :=
  j_X26_found_56 0 M
def f_X26_found (x0 x1 x2 : Int) (M : MM) : Option (Int) :=
  (gfi 26 2 x0 M).bind fun v1 =>
  if w32 v1 = w32 1 then
    (gfr 26 6 x0 M).bind fun v2 =>
    if v2 = -1 then
      j_X26_found_55 M
    else
      if w32 x1 < 0 then
        j_X26_found_55 M
      else
        (gfi 26 4 x0 M).bind fun v3 =>
        if w32 x1 < w32 v3 then
          if w32 x2 < 0 then
            j_X26_found_55 M
          else
            (gfi 26 5 x0 M).bind fun v4 =>
            if w32 x2 < w32 v4 then
              (gfr 26 6 x0 M).bind fun v5 =>
              (gfi 26 5 x0 M).bind fun v6 =>
              (lai v5 ((v6 * x1) + x2) M).bind fun v7 =>
              j_X26_found_56 v7 M
            else
              j_X26_found_55 M
        else
          j_X26_found_55 M
  else
    j_X26_found_55 M
theorem s_X26_found_56 {g : GG} {d : Nat} (hD : 0 ≤ d) {y0 : Int} {M : MM} {o : AV × MM} {P : (Int) → Prop} (r0 : ∀ r : Int, P r → o = ((0, r), M)) {z : Int} (h : j_X26_found_56 y0 M = some z) (hz : P z) : Sem g d YX26_found 56 [(9, 0), (9, 0), (9, 0)] [(0, y0)] M o := by
  delta j_X26_found_56 at h
  obtain rfl := r0 _ (some_P (P := fun r => P r) h hz)
  exact P_ret dX26_found_56 rfl (Or.inl rfl)
theorem s_X26_found_55 {g : GG} {d : Nat} (hD : 0 ≤ d) {M : MM} {o : AV × MM} {P : (Int) → Prop} (r0 : ∀ r : Int, P r → o = ((0, r), M)) {z : Int} (h : j_X26_found_55 M = some z) (hz : P z) : Sem g d YX26_found 55 [(9, 0), (9, 0), (9, 0)] [] M o := by
  delta j_X26_found_55 at h
  refine S_iconst dX26_found_55 rfl ?_
  exact s_X26_found_56 hD r0 h hz
theorem s_X26_found_0 {g : GG} {d : Nat} (hD : 0 ≤ d) {x0 x1 x2 : Int} {M : MM} {o : AV × MM} {P : (Int) → Prop} (r0 : ∀ r : Int, P r → o = ((0, r), M)) {z : Int} (h : f_X26_found x0 x1 x2 M = some z) (hz : P z) : Sem g d YX26_found 0 [(1, x0), (0, x1), (0, x2)] [] M o := by
  delta f_X26_found at h
  refine S_aload_n (i := 0) dX26_found_0 rfl rfl ?_
  refine P_gfi FLX26_26 rfl dX26_found_1 h (fun v1 h => ?_)
  refine S_iconst dX26_found_4 rfl ?_
  refine P_icmp_ne (tgt := 55) dX26_found_5 rfl h (fun h => ?_) (fun h => ?_)
  · refine S_weak (ls' := [(9, 0), (9, 0), (9, 0)]) ⟨Or.inl rfl, ⟨Or.inl rfl, ⟨Or.inl rfl, trivial⟩⟩⟩ ?_
    exact s_X26_found_55 hD r0 h hz
  · refine S_aload_n (i := 0) dX26_found_8 rfl rfl ?_
    refine P_gfr FLX26_22 rfl dX26_found_9 h (fun v2 h => ?_)
    refine P_ifnull (tgt := 55) dX26_found_12 rfl h (fun h => ?_) (fun h => ?_)
    · refine S_weak (ls' := [(9, 0), (9, 0), (9, 0)]) ⟨Or.inl rfl, ⟨Or.inl rfl, ⟨Or.inl rfl, trivial⟩⟩⟩ ?_
      exact s_X26_found_55 hD r0 h hz
    · refine S_iload_n (i := 1) dX26_found_15 rfl rfl ?_
      refine P_if_lt (tgt := 55) dX26_found_16 rfl h (fun h => ?_) (fun h => ?_)
      · refine S_weak (ls' := [(9, 0), (9, 0), (9, 0)]) ⟨Or.inl rfl, ⟨Or.inl rfl, ⟨Or.inl rfl, trivial⟩⟩⟩ ?_
        exact s_X26_found_55 hD r0 h hz
      · refine S_iload_n (i := 1) dX26_found_19 rfl rfl ?_
        refine S_aload_n (i := 0) dX26_found_20 rfl rfl ?_
        refine P_gfi FLX26_16 rfl dX26_found_21 h (fun v3 h => ?_)
        refine P_icmp_ge (tgt := 55) dX26_found_24 rfl h (fun h => ?_) (fun h => ?_)
        · refine S_weak (ls' := [(9, 0), (9, 0), (9, 0)]) ⟨Or.inl rfl, ⟨Or.inl rfl, ⟨Or.inl rfl, trivial⟩⟩⟩ ?_
          exact s_X26_found_55 hD r0 h hz
        · refine S_iload_n (i := 2) dX26_found_27 rfl rfl ?_
          refine P_if_lt (tgt := 55) dX26_found_28 rfl h (fun h => ?_) (fun h => ?_)
          · refine S_weak (ls' := [(9, 0), (9, 0), (9, 0)]) ⟨Or.inl rfl, ⟨Or.inl rfl, ⟨Or.inl rfl, trivial⟩⟩⟩ ?_
            exact s_X26_found_55 hD r0 h hz
          · refine S_iload_n (i := 2) dX26_found_31 rfl rfl ?_
            refine S_aload_n (i := 0) dX26_found_32 rfl rfl ?_
            refine P_gfi FLX26_19 rfl dX26_found_33 h (fun v4 h => ?_)
            refine P_icmp_ge (tgt := 55) dX26_found_36 rfl h (fun h => ?_) (fun h => ?_)
            · refine S_weak (ls' := [(9, 0), (9, 0), (9, 0)]) ⟨Or.inl rfl, ⟨Or.inl rfl, ⟨Or.inl rfl, trivial⟩⟩⟩ ?_
              exact s_X26_found_55 hD r0 h hz
            · refine S_aload_n (i := 0) dX26_found_39 rfl rfl ?_
              refine P_gfr FLX26_22 rfl dX26_found_40 h (fun v5 h => ?_)
              refine S_aload_n (i := 0) dX26_found_43 rfl rfl ?_
              refine P_gfi FLX26_19 rfl dX26_found_44 h (fun v6 h => ?_)
              refine S_iload_n (i := 1) dX26_found_47 rfl rfl ?_
              refine S_imul dX26_found_48 ?_
              refine S_iload_n (i := 2) dX26_found_49 rfl rfl ?_
              refine S_iadd dX26_found_50 ?_
              refine P_lai dX26_found_51 h (fun v7 h => ?_)
              refine S_goto (tgt := 56) dX26_found_52 rfl ?_
              refine S_weak (ls' := [(9, 0), (9, 0), (9, 0)]) ⟨Or.inl rfl, ⟨Or.inl rfl, ⟨Or.inl rfl, trivial⟩⟩⟩ ?_
              exact s_X26_found_56 hD r0 h hz
theorem F_X26_found {g : GG} {d : Nat} (hD : 0 ≤ d) {x0 x1 x2 : Int} {M : MM} {r : Int} (h : f_X26_found x0 x1 x2 M = some r) : Sem g d YX26_found 0 (ini YX26_found [(1, x0), (0, x1), (0, x2)]) [] M ((0, r), M) := by
  change Sem g d YX26_found 0 [(1, x0), (0, x1), (0, x2)] [] M ((0, r), M)
  exact s_X26_found_0 hD (P := fun x => x = r) (fun q e => by rw [e]) h rfl
/-! PeerSearch.found(III)I -/
theorem dX1_found_0 : decode cX1_found 0 = .ok (.aload_n 0, 1) := by decide +kernel
theorem dX1_found_1 : decode cX1_found 1 = .ok (.iload_n 1, 1) := by decide +kernel
theorem dX1_found_2 : decode cX1_found 2 = .ok (.invokevirtual 346, 3) := by decide +kernel
theorem dX1_found_5 : decode cX1_found 5 = .ok (.ifCond .eq 17, 3) := by decide +kernel
theorem dX1_found_8 : decode cX1_found 8 = .ok (.aload_n 0, 1) := by decide +kernel
theorem dX1_found_9 : decode cX1_found 9 = .ok (.getfield 27, 3) := by decide +kernel
theorem dX1_found_12 : decode cX1_found 12 = .ok (.iload_n 1, 1) := by decide +kernel
theorem dX1_found_13 : decode cX1_found 13 = .ok (.aaload, 1) := by decide +kernel
theorem dX1_found_14 : decode cX1_found 14 = .ok (.iload_n 2, 1) := by decide +kernel
theorem dX1_found_15 : decode cX1_found 15 = .ok (.iload_n 3, 1) := by decide +kernel
theorem dX1_found_16 : decode cX1_found 16 = .ok (.invokevirtual 359, 3) := by decide +kernel
theorem dX1_found_19 : decode cX1_found 19 = .ok (.goto 4, 3) := by decide +kernel
theorem dX1_found_22 : decode cX1_found 22 = .ok (.iconst 0, 1) := by decide +kernel
theorem dX1_found_23 : decode cX1_found 23 = .ok (.ireturn, 1) := by decide +kernel
def j_X1_found_23 (y0 : Int) (M : MM) : Option (Int) :=
  some y0
def f_X1_found (x0 x1 x2 x3 : Int) (M : MM) : Option (Int) :=
  ck 1 x0 M <| (f_X1_isTask x0 x1 M).bind fun v1 =>
  if w32 v1 = 0 then
    j_X1_found_23 0 M
  else
    (gfr 1 7 x0 M).bind fun v2 =>
    (lar 4 v2 x1 M).bind fun v3 =>
    ck 26 v3 M <| (f_X26_found v3 x2 x3 M).bind fun v4 =>
    j_X1_found_23 v4 M
theorem s_X1_found_23 {g : GG} {d : Nat} (hD : 1 ≤ d) {y0 : Int} {M : MM} {o : AV × MM} {P : (Int) → Prop} (r0 : ∀ r : Int, P r → o = ((0, r), M)) {z : Int} (h : j_X1_found_23 y0 M = some z) (hz : P z) : Sem g d YX1_found 23 [(9, 0), (9, 0), (9, 0), (9, 0)] [(0, y0)] M o := by
  delta j_X1_found_23 at h
  obtain rfl := r0 _ (some_P (P := fun r => P r) h hz)
  exact P_ret dX1_found_23 rfl (Or.inl rfl)
theorem s_X1_found_0 {g : GG} {d : Nat} (hD : 1 ≤ d) {x0 x1 x2 x3 : Int} {M : MM} {o : AV × MM} {P : (Int) → Prop} (r0 : ∀ r : Int, P r → o = ((0, r), M)) {z : Int} (h : f_X1_found x0 x1 x2 x3 M = some z) (hz : P z) : Sem g d YX1_found 0 [(1, x0), (0, x1), (0, x2), (0, x3)] [] M o := by
  delta f_X1_found at h
  refine S_aload_n (i := 0) dX1_found_0 rfl rfl ?_
  refine S_iload_n (i := 1) dX1_found_1 rfl rfl ?_
  refine P_invVp 0 [(0, x1)] [] CVX1_isTask MLX1_346 dX1_found_2 rfl rfl rfl rfl rfl (by omega) h (fun r h => F_X1_isTask (by omega) h) (fun v1 h => ?_)
  refine P_if_eq (tgt := 22) dX1_found_5 rfl h (fun h => ?_) (fun h => ?_)
  · refine S_iconst dX1_found_22 rfl ?_
    refine S_weak (ls' := [(9, 0), (9, 0), (9, 0), (9, 0)]) ⟨Or.inl rfl, ⟨Or.inl rfl, ⟨Or.inl rfl, ⟨Or.inl rfl, trivial⟩⟩⟩⟩ ?_
    exact s_X1_found_23 hD r0 h hz
  · refine S_aload_n (i := 0) dX1_found_8 rfl rfl ?_
    refine P_gfr FLX1_27 rfl dX1_found_9 h (fun v2 h => ?_)
    refine S_iload_n (i := 1) dX1_found_12 rfl rfl ?_
    refine P_lar (t := 4) ⟨by decide, by decide⟩ dX1_found_13 h (fun v3 h => ?_)
    refine S_iload_n (i := 2) dX1_found_14 rfl rfl ?_
    refine S_iload_n (i := 3) dX1_found_15 rfl rfl ?_
    refine P_invVp 0 [(0, x2), (0, x3)] [] CVX26_found MLX1_359 dX1_found_16 rfl rfl rfl rfl rfl (by omega) h (fun r h => F_X26_found (by omega) h) (fun v4 h => ?_)
    refine S_goto (tgt := 23) dX1_found_19 rfl ?_
    refine S_weak (ls' := [(9, 0), (9, 0), (9, 0), (9, 0)]) ⟨Or.inl rfl, ⟨Or.inl rfl, ⟨Or.inl rfl, ⟨Or.inl rfl, trivial⟩⟩⟩⟩ ?_
    exact s_X1_found_23 hD r0 h hz
theorem F_X1_found {g : GG} {d : Nat} (hD : 1 ≤ d) {x0 x1 x2 x3 : Int} {M : MM} {r : Int} (h : f_X1_found x0 x1 x2 x3 M = some r) : Sem g d YX1_found 0 (ini YX1_found [(1, x0), (0, x1), (0, x2), (0, x3)]) [] M ((0, r), M) := by
  change Sem g d YX1_found 0 [(1, x0), (0, x1), (0, x2), (0, x3)] [] M ((0, r), M)
  exact s_X1_found_0 hD (P := fun x => x = r) (fun q e => by rw [e]) h rfl
/-! PeerSearch.hash(I)I -/
theorem dX1_hash_0 : decode cX1_hash 0 = .ok (.iload_n 1, 1) := by decide +kernel
theorem dX1_hash_1 : decode cX1_hash 1 = .ok (.ifCond .lt 8, 3) := by decide +kernel
theorem dX1_hash_4 : decode cX1_hash 4 = .ok (.iload_n 1, 1) := by decide +kernel
theorem dX1_hash_5 : decode cX1_hash 5 = .ok (.iconst 5, 1) := by decide +kernel
theorem dX1_hash_6 : decode cX1_hash 6 = .ok (.if_icmp .lt 5, 3) := by decide +kernel
theorem dX1_hash_9 : decode cX1_hash 9 = .ok (.iconst 0, 1) := by decide +kernel
theorem dX1_hash_10 : decode cX1_hash 10 = .ok (.ireturn, 1) := by decide +kernel
theorem dX1_hash_11 : decode cX1_hash 11 = .ok (.aload_n 0, 1) := by decide +kernel
theorem dX1_hash_12 : decode cX1_hash 12 = .ok (.getfield 70, 3) := by decide +kernel
theorem dX1_hash_15 : decode cX1_hash 15 = .ok (.getfield 95, 3) := by decide +kernel
theorem dX1_hash_18 : decode cX1_hash 18 = .ok (.aload_n 0, 1) := by decide +kernel
theorem dX1_hash_19 : decode cX1_hash 19 = .ok (.getfield 13, 3) := by decide +kernel
theorem dX1_hash_22 : decode cX1_hash 22 = .ok (.aload_n 0, 1) := by decide +kernel
theorem dX1_hash_23 : decode cX1_hash 23 = .ok (.getfield 91, 3) := by decide +kernel
theorem dX1_hash_26 : decode cX1_hash 26 = .ok (.aload_n 0, 1) := by decide +kernel
theorem dX1_hash_27 : decode cX1_hash 27 = .ok (.getfield 41, 3) := by decide +kernel
theorem dX1_hash_30 : decode cX1_hash 30 = .ok (.invokevirtual 99, 3) := by decide +kernel
theorem dX1_hash_33 : decode cX1_hash 33 = .ok (.aload_n 0, 1) := by decide +kernel
theorem dX1_hash_34 : decode cX1_hash 34 = .ok (.getfield 41, 3) := by decide +kernel
theorem dX1_hash_37 : decode cX1_hash 37 = .ok (.getfield 105, 3) := by decide +kernel
theorem dX1_hash_40 : decode cX1_hash 40 = .ok (.iload_n 1, 1) := by decide +kernel
theorem dX1_hash_41 : decode cX1_hash 41 = .ok (.iaload, 1) := by decide +kernel
theorem dX1_hash_42 : decode cX1_hash 42 = .ok (.ireturn, 1) := by decide +kernel
def j_X1_hash_9 (M : MM) : Option (Int × MM) :=
  some (0, M)
def f_X1_hash (x0 x1 : Int) (M : MM) : Option (Int × MM) :=
  if w32 x1 < 0 then
    j_X1_hash_9 M
  else
    if w32 x1 < w32 5 then
      (gfr 1 0 x0 M).bind fun v1 =>
      (gfr 6 3 v1 M).bind fun v2 =>
      (gfr 1 3 x0 M).bind fun v3 =>
      (gfi 1 5 x0 M).bind fun v4 =>
      (gfr 1 10 x0 M).bind fun v5 =>
      ck 8 v2 M <| (f_X8_of v2 v3 v4 v5 M).bind fun M1 =>
      (gfr 1 10 x0 M1).bind fun v6 =>
      (gfr 3 0 v6 M1).bind fun v7 =>
      (lai v7 x1 M1).bind fun v8 =>
      some (v8, M1)
    else
      j_X1_hash_9 M
theorem s_X1_hash_9 {g : GG} {d : Nat} (hD : 3 ≤ d) {M : MM} {o : AV × MM} {P : (Int × MM) → Prop} (r0 : ∀ r : Int × MM, P r → o = ((0, r.1), r.2)) {z : Int × MM} (h : j_X1_hash_9 M = some z) (hz : P z) : Sem g d YX1_hash 9 [(9, 0), (9, 0)] [] M o := by
  delta j_X1_hash_9 at h
  refine S_iconst dX1_hash_9 rfl ?_
  obtain rfl := r0 _ (some_P (P := fun r => P r) h hz)
  exact P_ret dX1_hash_10 rfl (Or.inl rfl)
theorem s_X1_hash_0 {g : GG} {d : Nat} (hD : 3 ≤ d) {x0 x1 : Int} {M : MM} {o : AV × MM} {P : (Int × MM) → Prop} (r0 : ∀ r : Int × MM, P r → o = ((0, r.1), r.2)) {z : Int × MM} (h : f_X1_hash x0 x1 M = some z) (hz : P z) : Sem g d YX1_hash 0 [(1, x0), (0, x1)] [] M o := by
  delta f_X1_hash at h
  refine S_iload_n (i := 1) dX1_hash_0 rfl rfl ?_
  refine P_if_lt (tgt := 9) dX1_hash_1 rfl h (fun h => ?_) (fun h => ?_)
  · refine S_weak (ls' := [(9, 0), (9, 0)]) ⟨Or.inl rfl, ⟨Or.inl rfl, trivial⟩⟩ ?_
    exact s_X1_hash_9 hD r0 h hz
  · refine S_iload_n (i := 1) dX1_hash_4 rfl rfl ?_
    refine S_iconst dX1_hash_5 rfl ?_
    refine P_icmp_lt (tgt := 11) dX1_hash_6 rfl h (fun h => ?_) (fun h => ?_)
    · refine S_aload_n (i := 0) dX1_hash_11 rfl rfl ?_
      refine P_gfr FLX1_70 rfl dX1_hash_12 h (fun v1 h => ?_)
      refine P_gfr FLX1_95 rfl dX1_hash_15 h (fun v2 h => ?_)
      refine S_aload_n (i := 0) dX1_hash_18 rfl rfl ?_
      refine P_gfr FLX1_13 rfl dX1_hash_19 h (fun v3 h => ?_)
      refine S_aload_n (i := 0) dX1_hash_22 rfl rfl ?_
      refine P_gfi FLX1_91 rfl dX1_hash_23 h (fun v4 h => ?_)
      refine S_aload_n (i := 0) dX1_hash_26 rfl rfl ?_
      refine P_gfr FLX1_41 rfl dX1_hash_27 h (fun v5 h => ?_)
      refine P_invVm' [(1, v3), (0, v4), (1, v5)] [] CVX8_of MLX1_99 dX1_hash_30 rfl rfl rfl rfl (by omega) h (fun r h => F_X8_of (by omega) h) (fun M1 h => ?_)
      refine S_aload_n (i := 0) dX1_hash_33 rfl rfl ?_
      refine P_gfr FLX1_41 rfl dX1_hash_34 h (fun v6 h => ?_)
      refine P_gfr FLX1_105 rfl dX1_hash_37 h (fun v7 h => ?_)
      refine S_iload_n (i := 1) dX1_hash_40 rfl rfl ?_
      refine P_lai dX1_hash_41 h (fun v8 h => ?_)
      obtain rfl := r0 _ (some_P (P := fun r => P r) h hz)
      exact P_ret dX1_hash_42 rfl (Or.inl rfl)
    · refine S_weak (ls' := [(9, 0), (9, 0)]) ⟨Or.inl rfl, ⟨Or.inl rfl, trivial⟩⟩ ?_
      exact s_X1_hash_9 hD r0 h hz
theorem F_X1_hash {g : GG} {d : Nat} (hD : 3 ≤ d) {x0 x1 : Int} {M : MM} {r : Int × MM} (h : f_X1_hash x0 x1 M = some r) : Sem g d YX1_hash 0 (ini YX1_hash [(1, x0), (0, x1)]) [] M ((0, r.1), r.2) := by
  change Sem g d YX1_hash 0 [(1, x0), (0, x1)] [] M ((0, r.1), r.2)
  exact s_X1_hash_0 hD (P := fun x => x = r) (fun q e => by rw [e]) h rfl
/-! PeerSearch$Task.<init>(II)V -/
theorem dX26_init_0 : decode cX26_init 0 = .ok (.aload_n 0, 1) := by decide +kernel
theorem dX26_init_1 : decode cX26_init 1 = .ok (.invokespecial 1, 3) := by decide +kernel
theorem dX26_init_4 : decode cX26_init 4 = .ok (.aload_n 0, 1) := by decide +kernel
theorem dX26_init_5 : decode cX26_init 5 = .ok (.iload_n 1, 1) := by decide +kernel
theorem dX26_init_6 : decode cX26_init 6 = .ok (.putfield 7, 3) := by decide +kernel
theorem dX26_init_9 : decode cX26_init 9 = .ok (.aload_n 0, 1) := by decide +kernel
theorem dX26_init_10 : decode cX26_init 10 = .ok (.iload_n 2, 1) := by decide +kernel
theorem dX26_init_11 : decode cX26_init 11 = .ok (.putfield 13, 3) := by decide +kernel
theorem dX26_init_14 : decode cX26_init 14 = .ok (.return_, 1) := by decide +kernel
def f_X26_init (x0 x1 x2 : Int) (M : MM) : Option (MM) :=
  nn x0 <|
  (pfi 26 0 x0 x1 M).bind fun M1 =>
  (pfi 26 1 x0 x2 M1).bind fun M2 =>
  some M2
theorem s_X26_init_0 {g : GG} {d : Nat} (hD : 1 ≤ d) {x0 x1 x2 : Int} {M : MM} {o : AV × MM} {P : (MM) → Prop} (r0 : ∀ r : MM, P r → o = ((9, 0), r)) {z : MM} (h : f_X26_init x0 x1 x2 M = some z) (hz : P z) : Sem g d YX26_init 0 [(1, x0), (0, x1), (0, x2)] [] M o := by
  delta f_X26_init at h
  refine S_aload_n (i := 0) dX26_init_0 rfl rfl ?_
  refine P_obj q1209 dX26_init_1 rfl (by omega) h (fun h => ?_)
  refine S_aload_n (i := 0) dX26_init_4 rfl rfl ?_
  refine S_iload_n (i := 1) dX26_init_5 rfl rfl ?_
  refine P_pfi FLX26_7 FPX26_7 rfl dX26_init_6 h (fun M1 h => ?_)
  refine S_aload_n (i := 0) dX26_init_9 rfl rfl ?_
  refine S_iload_n (i := 2) dX26_init_10 rfl rfl ?_
  refine P_pfi FLX26_13 FPX26_13 rfl dX26_init_11 h (fun M2 h => ?_)
  obtain rfl := r0 _ (some_P (P := fun r => P r) h hz)
  exact S_return dX26_init_14 rfl
theorem F_X26_init {g : GG} {d : Nat} (hD : 1 ≤ d) {x0 x1 x2 : Int} {M : MM} {r : MM} (h : f_X26_init x0 x1 x2 M = some r) : Sem g d YX26_init 0 (ini YX26_init [(1, x0), (0, x1), (0, x2)]) [] M ((9, 0), r) := by
  change Sem g d YX26_init 0 [(1, x0), (0, x1), (0, x2)] [] M ((9, 0), r)
  exact s_X26_init_0 hD (P := fun x => x = r) (fun q e => by rw [e]) h rfl
/-! PeerSearch$Entry.<init>()V -/
theorem dX27_init_0 : decode cX27_init 0 = .ok (.aload_n 0, 1) := by decide +kernel
theorem dX27_init_1 : decode cX27_init 1 = .ok (.invokespecial 1, 3) := by decide +kernel
theorem dX27_init_4 : decode cX27_init 4 = .ok (.aload_n 0, 1) := by decide +kernel
theorem dX27_init_5 : decode cX27_init 5 = .ok (.new 7, 3) := by decide +kernel
theorem dX27_init_8 : decode cX27_init 8 = .ok (.dup, 1) := by decide +kernel
theorem dX27_init_9 : decode cX27_init 9 = .ok (.invokespecial 9, 3) := by decide +kernel
theorem dX27_init_12 : decode cX27_init 12 = .ok (.putfield 10, 3) := by decide +kernel
theorem dX27_init_15 : decode cX27_init 15 = .ok (.return_, 1) := by decide +kernel
def f_X27_init (x0 : Int) (M : MM) : Option (MM) :=
  nn x0 <|
  (nob 3 1 30 M).bind fun r1 =>
  nn r1.1 <| (f_X3_init r1.1 r1.2).bind fun M1 =>
  (pfr 27 0 x0 r1.1 M1).bind fun M2 =>
  some M2
theorem s_X27_init_0 {g : GG} {d : Nat} (hD : 2 ≤ d) {x0 : Int} {M : MM} {o : AV × MM} {P : (MM) → Prop} (r0 : ∀ r : MM, P r → o = ((9, 0), r)) {z : MM} (h : f_X27_init x0 M = some z) (hz : P z) : Sem g d YX27_init 0 [(1, x0)] [] M o := by
  delta f_X27_init at h
  refine S_aload_n (i := 0) dX27_init_0 rfl rfl ?_
  refine P_obj q1273 dX27_init_1 rfl (by omega) h (fun h => ?_)
  refine S_aload_n (i := 0) dX27_init_4 rfl rfl ?_
  refine P_nob NLX27_7 rfl dX27_init_5 h (fun r1 h => ?_)
  refine S_dup dX27_init_8 (Nat.le_of_ble_eq_true rfl) ?_
  refine P_invI' [] [(1, r1.1), (1, x0)] CIX3_init MLX27_9 dX27_init_9 rfl rfl rfl rfl (by omega) h (fun r h => F_X3_init (by omega) h) (fun M1 h => ?_)
  refine P_pfr FLX27_10 FPX27_10 (Or.inl ⟨_, rfl⟩) rfl dX27_init_12 h (fun M2 h => ?_)
  obtain rfl := r0 _ (some_P (P := fun r => P r) h hz)
  exact S_return dX27_init_15 rfl
theorem F_X27_init {g : GG} {d : Nat} (hD : 2 ≤ d) {x0 : Int} {M : MM} {r : MM} (h : f_X27_init x0 M = some r) : Sem g d YX27_init 0 (ini YX27_init [(1, x0)]) [] M ((9, 0), r) := by
  change Sem g d YX27_init 0 [(1, x0)] [] M ((9, 0), r)
  exact s_X27_init_0 hD (P := fun x => x = r) (fun q e => by rw [e]) h rfl
/-! PeerSearch$Key.isNearer(LPeerSearch$Key;LPeerSearch$Key;)Z -/
theorem dX3_isNearer_0 : decode cX3_isNearer 0 = .ok (.aload_n 0, 1) := by decide +kernel
theorem dX3_isNearer_1 : decode cX3_isNearer 1 = .ok (.aload_n 1, 1) := by decide +kernel
theorem dX3_isNearer_2 : decode cX3_isNearer 2 = .ok (.invokevirtual 13, 3) := by decide +kernel
theorem dX3_isNearer_5 : decode cX3_isNearer 5 = .ok (.istore_n 3, 1) := by decide +kernel
theorem dX3_isNearer_6 : decode cX3_isNearer 6 = .ok (.iload_n 3, 1) := by decide +kernel
theorem dX3_isNearer_7 : decode cX3_isNearer 7 = .ok (.sipush 160, 3) := by decide +kernel
theorem dX3_isNearer_10 : decode cX3_isNearer 10 = .ok (.if_icmp .ge 34, 3) := by decide +kernel
theorem dX3_isNearer_13 : decode cX3_isNearer 13 = .ok (.aload_n 0, 1) := by decide +kernel
theorem dX3_isNearer_14 : decode cX3_isNearer 14 = .ok (.getfield 9, 3) := by decide +kernel
theorem dX3_isNearer_17 : decode cX3_isNearer 17 = .ok (.iload_n 3, 1) := by decide +kernel
theorem dX3_isNearer_18 : decode cX3_isNearer 18 = .ok (.bipush 32, 2) := by decide +kernel
theorem dX3_isNearer_20 : decode cX3_isNearer 20 = .ok (.idiv, 1) := by decide +kernel
theorem dX3_isNearer_21 : decode cX3_isNearer 21 = .ok (.iaload, 1) := by decide +kernel
theorem dX3_isNearer_22 : decode cX3_isNearer 22 = .ok (.aload_n 2, 1) := by decide +kernel
theorem dX3_isNearer_23 : decode cX3_isNearer 23 = .ok (.getfield 9, 3) := by decide +kernel
theorem dX3_isNearer_26 : decode cX3_isNearer 26 = .ok (.iload_n 3, 1) := by decide +kernel
theorem dX3_isNearer_27 : decode cX3_isNearer 27 = .ok (.bipush 32, 2) := by decide +kernel
theorem dX3_isNearer_29 : decode cX3_isNearer 29 = .ok (.idiv, 1) := by decide +kernel
theorem dX3_isNearer_30 : decode cX3_isNearer 30 = .ok (.iaload, 1) := by decide +kernel
theorem dX3_isNearer_31 : decode cX3_isNearer 31 = .ok (.ixor, 1) := by decide +kernel
theorem dX3_isNearer_32 : decode cX3_isNearer 32 = .ok (.iload_n 3, 1) := by decide +kernel
theorem dX3_isNearer_33 : decode cX3_isNearer 33 = .ok (.bipush 32, 2) := by decide +kernel
theorem dX3_isNearer_35 : decode cX3_isNearer 35 = .ok (.irem, 1) := by decide +kernel
theorem dX3_isNearer_36 : decode cX3_isNearer 36 = .ok (.ishl, 1) := by decide +kernel
theorem dX3_isNearer_37 : decode cX3_isNearer 37 = .ok (.ifCond .lt 7, 3) := by decide +kernel
theorem dX3_isNearer_40 : decode cX3_isNearer 40 = .ok (.iconst 1, 1) := by decide +kernel
theorem dX3_isNearer_41 : decode cX3_isNearer 41 = .ok (.goto 4, 3) := by decide +kernel
theorem dX3_isNearer_44 : decode cX3_isNearer 44 = .ok (.iconst 0, 1) := by decide +kernel
theorem dX3_isNearer_45 : decode cX3_isNearer 45 = .ok (.ireturn, 1) := by decide +kernel
def j_X3_isNearer_45 (y0 : Int) (M : MM) : Option (Int) :=
  bz y0 (some y0)
def j_X3_isNearer_44 (M : MM) : Option (Int) :=
  j_X3_isNearer_45 0 M
def f_X3_isNearer (x0 x1 x2 : Int) (M : MM) : Option (Int) :=
  ck 3 x0 M <| (f_X3_common x0 x1 M).bind fun v1 =>
  if w32 v1 < w32 160 then
    (gfr 3 0 x0 M).bind fun v2 =>
    (dvi v1 32).bind fun v3 =>
    (lai v2 v3 M).bind fun v4 =>
    (gfr 3 0 x2 M).bind fun v5 =>
    (dvi v1 32).bind fun v6 =>
    (lai v5 v6 M).bind fun v7 =>
    (rmi v1 32).bind fun v8 =>
    if w32 (bshl (bxor v4 v7) v8) < 0 then
      j_X3_isNearer_44 M
    else
      j_X3_isNearer_45 1 M
  else
    j_X3_isNearer_44 M
theorem s_X3_isNearer_45 {g : GG} {d : Nat} (hD : 2 ≤ d) {y0 : Int} {M : MM} {o : AV × MM} {P : (Int) → Prop} (r0 : ∀ r : Int, P r → o = ((0, r), M)) {z : Int} (h : j_X3_isNearer_45 y0 M = some z) (hz : P z) : Sem g d YX3_isNearer 45 [(9, 0), (9, 0), (9, 0), (9, 0)] [(0, y0)] M o := by
  delta j_X3_isNearer_45 at h
  obtain ⟨hb, h⟩ := bz_some h
  obtain rfl := r0 _ (some_P (P := fun r => P r) h hz)
  exact P_ret dX3_isNearer_45 rfl (Or.inr ⟨rfl, hb⟩)
theorem s_X3_isNearer_44 {g : GG} {d : Nat} (hD : 2 ≤ d) {M : MM} {o : AV × MM} {P : (Int) → Prop} (r0 : ∀ r : Int, P r → o = ((0, r), M)) {z : Int} (h : j_X3_isNearer_44 M = some z) (hz : P z) : Sem g d YX3_isNearer 44 [(9, 0), (9, 0), (9, 0), (9, 0)] [] M o := by
  delta j_X3_isNearer_44 at h
  refine S_iconst dX3_isNearer_44 rfl ?_
  exact s_X3_isNearer_45 hD r0 h hz
theorem s_X3_isNearer_0 {g : GG} {d : Nat} (hD : 2 ≤ d) {x0 x1 x2 : Int} {M : MM} {o : AV × MM} {P : (Int) → Prop} (r0 : ∀ r : Int, P r → o = ((0, r), M)) {z : Int} (h : f_X3_isNearer x0 x1 x2 M = some z) (hz : P z) : Sem g d YX3_isNearer 0 [(1, x0), (1, x1), (1, x2), (9, 0)] [] M o := by
  delta f_X3_isNearer at h
  refine S_aload_n (i := 0) dX3_isNearer_0 rfl rfl ?_
  refine S_aload_n (i := 1) dX3_isNearer_1 rfl rfl ?_
  refine P_invVp 0 [(1, x1)] [] CVX3_common MLX3_13 dX3_isNearer_2 rfl rfl rfl rfl rfl (by omega) h (fun r h => F_X3_common (by omega) h) (fun v1 h => ?_)
  refine S_istore_n (i := 3) dX3_isNearer_5 rfl (Nat.le_of_ble_eq_true rfl) rfl rfl ?_
  change Sem g d YX3_isNearer 6 [(1, x0), (1, x1), (1, x2), (0, v1)] [] M o
  refine S_iload_n (i := 3) dX3_isNearer_6 rfl rfl ?_
  refine S_sipush (z := 160) dX3_isNearer_7 rfl ?_
  refine P_icmp_ge (tgt := 44) dX3_isNearer_10 rfl h (fun h => ?_) (fun h => ?_)
  · refine S_weak (ls' := [(9, 0), (9, 0), (9, 0), (9, 0)]) ⟨Or.inl rfl, ⟨Or.inl rfl, ⟨Or.inl rfl, ⟨Or.inl rfl, trivial⟩⟩⟩⟩ ?_
    exact s_X3_isNearer_44 hD r0 h hz
  · refine S_aload_n (i := 0) dX3_isNearer_13 rfl rfl ?_
    refine P_gfr FLX3_9 rfl dX3_isNearer_14 h (fun v2 h => ?_)
    refine S_iload_n (i := 3) dX3_isNearer_17 rfl rfl ?_
    refine S_bipush (z := 32) dX3_isNearer_18 rfl ?_
    refine P_dvi dX3_isNearer_20 h (fun v3 h => ?_)
    refine P_lai dX3_isNearer_21 h (fun v4 h => ?_)
    refine S_aload_n (i := 2) dX3_isNearer_22 rfl rfl ?_
    refine P_gfr FLX3_9 rfl dX3_isNearer_23 h (fun v5 h => ?_)
    refine S_iload_n (i := 3) dX3_isNearer_26 rfl rfl ?_
    refine S_bipush (z := 32) dX3_isNearer_27 rfl ?_
    refine P_dvi dX3_isNearer_29 h (fun v6 h => ?_)
    refine P_lai dX3_isNearer_30 h (fun v7 h => ?_)
    refine S_ixor dX3_isNearer_31 ?_
    refine S_iload_n (i := 3) dX3_isNearer_32 rfl rfl ?_
    refine S_bipush (z := 32) dX3_isNearer_33 rfl ?_
    refine P_rmi dX3_isNearer_35 h (fun v8 h => ?_)
    refine S_ishl dX3_isNearer_36 ?_
    refine P_if_lt (tgt := 44) dX3_isNearer_37 rfl h (fun h => ?_) (fun h => ?_)
    · refine S_weak (ls' := [(9, 0), (9, 0), (9, 0), (9, 0)]) ⟨Or.inl rfl, ⟨Or.inl rfl, ⟨Or.inl rfl, ⟨Or.inl rfl, trivial⟩⟩⟩⟩ ?_
      exact s_X3_isNearer_44 hD r0 h hz
    · refine S_iconst dX3_isNearer_40 rfl ?_
      refine S_goto (tgt := 45) dX3_isNearer_41 rfl ?_
      refine S_weak (ls' := [(9, 0), (9, 0), (9, 0), (9, 0)]) ⟨Or.inl rfl, ⟨Or.inl rfl, ⟨Or.inl rfl, ⟨Or.inl rfl, trivial⟩⟩⟩⟩ ?_
      exact s_X3_isNearer_45 hD r0 h hz
theorem F_X3_isNearer {g : GG} {d : Nat} (hD : 2 ≤ d) {x0 x1 x2 : Int} {M : MM} {r : Int} (h : f_X3_isNearer x0 x1 x2 M = some r) : Sem g d YX3_isNearer 0 (ini YX3_isNearer [(1, x0), (1, x1), (1, x2)]) [] M ((0, r), M) := by
  change Sem g d YX3_isNearer 0 [(1, x0), (1, x1), (1, x2), (9, 0)] [] M ((0, r), M)
  exact s_X3_isNearer_0 hD (P := fun x => x = r) (fun q e => by rw [e]) h rfl
