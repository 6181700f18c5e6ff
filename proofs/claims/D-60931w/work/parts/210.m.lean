set_option maxRecDepth 100000
/-! PeerSearchModel.before(II)Z -/
theorem dX16_before_0 : decode cX16_before 0 = .ok (.aload_n 0, 1) := by decide +kernel
theorem dX16_before_1 : decode cX16_before 1 = .ok (.getfield 183, 3) := by decide +kernel
theorem dX16_before_4 : decode cX16_before 4 = .ok (.iload_n 1, 1) := by decide +kernel
theorem dX16_before_5 : decode cX16_before 5 = .ok (.iaload, 1) := by decide +kernel
theorem dX16_before_6 : decode cX16_before 6 = .ok (.aload_n 0, 1) := by decide +kernel
theorem dX16_before_7 : decode cX16_before 7 = .ok (.getfield 183, 3) := by decide +kernel
theorem dX16_before_10 : decode cX16_before 10 = .ok (.iload_n 2, 1) := by decide +kernel
theorem dX16_before_11 : decode cX16_before 11 = .ok (.iaload, 1) := by decide +kernel
theorem dX16_before_12 : decode cX16_before 12 = .ok (.if_icmp .lt 33, 3) := by decide +kernel
theorem dX16_before_15 : decode cX16_before 15 = .ok (.aload_n 0, 1) := by decide +kernel
theorem dX16_before_16 : decode cX16_before 16 = .ok (.getfield 183, 3) := by decide +kernel
theorem dX16_before_19 : decode cX16_before 19 = .ok (.iload_n 1, 1) := by decide +kernel
theorem dX16_before_20 : decode cX16_before 20 = .ok (.iaload, 1) := by decide +kernel
theorem dX16_before_21 : decode cX16_before 21 = .ok (.aload_n 0, 1) := by decide +kernel
theorem dX16_before_22 : decode cX16_before 22 = .ok (.getfield 183, 3) := by decide +kernel
theorem dX16_before_25 : decode cX16_before 25 = .ok (.iload_n 2, 1) := by decide +kernel
theorem dX16_before_26 : decode cX16_before 26 = .ok (.iaload, 1) := by decide +kernel
theorem dX16_before_27 : decode cX16_before 27 = .ok (.if_icmp .ne 22, 3) := by decide +kernel
theorem dX16_before_30 : decode cX16_before 30 = .ok (.aload_n 0, 1) := by decide +kernel
theorem dX16_before_31 : decode cX16_before 31 = .ok (.getfield 186, 3) := by decide +kernel
theorem dX16_before_34 : decode cX16_before 34 = .ok (.iload_n 1, 1) := by decide +kernel
theorem dX16_before_35 : decode cX16_before 35 = .ok (.iaload, 1) := by decide +kernel
theorem dX16_before_36 : decode cX16_before 36 = .ok (.aload_n 0, 1) := by decide +kernel
theorem dX16_before_37 : decode cX16_before 37 = .ok (.getfield 186, 3) := by decide +kernel
theorem dX16_before_40 : decode cX16_before 40 = .ok (.iload_n 2, 1) := by decide +kernel
theorem dX16_before_41 : decode cX16_before 41 = .ok (.iaload, 1) := by decide +kernel
theorem dX16_before_42 : decode cX16_before 42 = .ok (.if_icmp .ge 7, 3) := by decide +kernel
theorem dX16_before_45 : decode cX16_before 45 = .ok (.iconst 1, 1) := by decide +kernel
theorem dX16_before_46 : decode cX16_before 46 = .ok (.goto 4, 3) := by decide +kernel
theorem dX16_before_49 : decode cX16_before 49 = .ok (.iconst 0, 1) := by decide +kernel
theorem dX16_before_50 : decode cX16_before 50 = .ok (.ireturn, 1) := by decide +kernel
def j_X16_before_50 (y0 : Int) (V : VV) : Option (Int) :=
  bz y0 (some y0)
def j_X16_before_49 (V : VV) : Option (Int) :=
  j_X16_before_50 0 V
def j_X16_before_45 (V : VV) : Option (Int) :=
  j_X16_before_50 1 V
def f_X16_before (x1 x2 : Int) (V : VV) : Option (Int) :=
  (l2 212 6400 x1 V).bind fun v1 =>
  (l2 212 6400 x2 V).bind fun v2 =>
  if w32 v1 < w32 v2 then
    j_X16_before_45 V
  else
    (l2 212 6400 x1 V).bind fun v3 =>
    (l2 212 6400 x2 V).bind fun v4 =>
    if w32 v3 = w32 v4 then
      (l2 213 6400 x1 V).bind fun v5 =>
      (l2 213 6400 x2 V).bind fun v6 =>
      if w32 v5 < w32 v6 then
        j_X16_before_45 V
      else
        j_X16_before_49 V
    else
      j_X16_before_49 V
theorem s_X16_before_50 {g : GG} {d : Nat} (hD : 0 ≤ d) {y0 : Int} {M : MM} (hM : LM M) {V : VV} {o : AV × MM} {P : (Int) → Prop} (r0 : ∀ r : Int, P r → o = ((0, r), (wr M V))) {z : Int} (h : j_X16_before_50 y0 V = some z) (hz : P z) : Sem g d YX16_before 50 [(9, 0), (9, 0), (9, 0)] [(0, y0)] (wr M V) o := by
  delta j_X16_before_50 at h
  obtain ⟨hb, h⟩ := bz_some h
  obtain rfl := r0 _ (some_P (P := fun r => P r) h hz)
  exact P_ret dX16_before_50 rfl (Or.inr ⟨rfl, hb⟩)
theorem s_X16_before_49 {g : GG} {d : Nat} (hD : 0 ≤ d) {M : MM} (hM : LM M) {V : VV} {o : AV × MM} {P : (Int) → Prop} (r0 : ∀ r : Int, P r → o = ((0, r), (wr M V))) {z : Int} (h : j_X16_before_49 V = some z) (hz : P z) : Sem g d YX16_before 49 [(9, 0), (9, 0), (9, 0)] [] (wr M V) o := by
  delta j_X16_before_49 at h
  refine S_iconst dX16_before_49 rfl ?_
  exact s_X16_before_50 hD hM r0 h hz
theorem s_X16_before_45 {g : GG} {d : Nat} (hD : 0 ≤ d) {M : MM} (hM : LM M) {V : VV} {o : AV × MM} {P : (Int) → Prop} (r0 : ∀ r : Int, P r → o = ((0, r), (wr M V))) {z : Int} (h : j_X16_before_45 V = some z) (hz : P z) : Sem g d YX16_before 45 [(9, 0), (9, 0), (9, 0)] [] (wr M V) o := by
  delta j_X16_before_45 at h
  refine S_iconst dX16_before_45 rfl ?_
  refine S_goto (tgt := 50) dX16_before_46 rfl ?_
  exact s_X16_before_50 hD hM r0 h hz
theorem s_X16_before_0 {g : GG} {d : Nat} (hD : 0 ≤ d) {x1 x2 : Int} {M : MM} (hM : LM M) {V : VV} {o : AV × MM} {P : (Int) → Prop} (r0 : ∀ r : Int, P r → o = ((0, r), (wr M V))) {z : Int} (h : f_X16_before x1 x2 V = some z) (hz : P z) : Sem g d YX16_before 0 [(1, 156), (0, x1), (0, x2)] [] (wr M V) o := by
  delta f_X16_before at h
  refine S_aload_n (i := 0) dX16_before_0 rfl rfl ?_
  refine P2_gfr hM (a := 212) FLX16_183 rfl ⟨rfl, rfl⟩ dX16_before_1 ?_
  refine S_iload_n (i := 1) dX16_before_4 rfl rfl ?_
  refine P2_lai hM (a := 212) (n := 6400) rfl dX16_before_5 h (fun v1 h => ?_)
  refine S_aload_n (i := 0) dX16_before_6 rfl rfl ?_
  refine P2_gfr hM (a := 212) FLX16_183 rfl ⟨rfl, rfl⟩ dX16_before_7 ?_
  refine S_iload_n (i := 2) dX16_before_10 rfl rfl ?_
  refine P2_lai hM (a := 212) (n := 6400) rfl dX16_before_11 h (fun v2 h => ?_)
  refine P_icmp_lt (tgt := 45) dX16_before_12 rfl h (fun h => ?_) (fun h => ?_)
  · refine S_weak (ls' := [(9, 0), (9, 0), (9, 0)]) ⟨Or.inl rfl, ⟨Or.inl rfl, ⟨Or.inl rfl, trivial⟩⟩⟩ ?_
    exact s_X16_before_45 hD hM r0 h hz
  · refine S_aload_n (i := 0) dX16_before_15 rfl rfl ?_
    refine P2_gfr hM (a := 212) FLX16_183 rfl ⟨rfl, rfl⟩ dX16_before_16 ?_
    refine S_iload_n (i := 1) dX16_before_19 rfl rfl ?_
    refine P2_lai hM (a := 212) (n := 6400) rfl dX16_before_20 h (fun v3 h => ?_)
    refine S_aload_n (i := 0) dX16_before_21 rfl rfl ?_
    refine P2_gfr hM (a := 212) FLX16_183 rfl ⟨rfl, rfl⟩ dX16_before_22 ?_
    refine S_iload_n (i := 2) dX16_before_25 rfl rfl ?_
    refine P2_lai hM (a := 212) (n := 6400) rfl dX16_before_26 h (fun v4 h => ?_)
    refine P_icmp_ne (tgt := 49) dX16_before_27 rfl h (fun h => ?_) (fun h => ?_)
    · refine S_weak (ls' := [(9, 0), (9, 0), (9, 0)]) ⟨Or.inl rfl, ⟨Or.inl rfl, ⟨Or.inl rfl, trivial⟩⟩⟩ ?_
      exact s_X16_before_49 hD hM r0 h hz
    · refine S_aload_n (i := 0) dX16_before_30 rfl rfl ?_
      refine P2_gfr hM (a := 213) FLX16_186 rfl ⟨rfl, rfl⟩ dX16_before_31 ?_
      refine S_iload_n (i := 1) dX16_before_34 rfl rfl ?_
      refine P2_lai hM (a := 213) (n := 6400) rfl dX16_before_35 h (fun v5 h => ?_)
      refine S_aload_n (i := 0) dX16_before_36 rfl rfl ?_
      refine P2_gfr hM (a := 213) FLX16_186 rfl ⟨rfl, rfl⟩ dX16_before_37 ?_
      refine S_iload_n (i := 2) dX16_before_40 rfl rfl ?_
      refine P2_lai hM (a := 213) (n := 6400) rfl dX16_before_41 h (fun v6 h => ?_)
      refine P_icmp_ge (tgt := 49) dX16_before_42 rfl h (fun h => ?_) (fun h => ?_)
      · refine S_weak (ls' := [(9, 0), (9, 0), (9, 0)]) ⟨Or.inl rfl, ⟨Or.inl rfl, ⟨Or.inl rfl, trivial⟩⟩⟩ ?_
        exact s_X16_before_49 hD hM r0 h hz
      · refine S_weak (ls' := [(9, 0), (9, 0), (9, 0)]) ⟨Or.inl rfl, ⟨Or.inl rfl, ⟨Or.inl rfl, trivial⟩⟩⟩ ?_
        exact s_X16_before_45 hD hM r0 h hz
theorem F_X16_before {g : GG} {d : Nat} (hD : 0 ≤ d) {x1 x2 : Int} {M : MM} (hM : LM M) {V : VV} {r : Int} (h : f_X16_before x1 x2 V = some r) : Sem g d YX16_before 0 (ini YX16_before [(1, 156), (0, x1), (0, x2)]) [] (wr M V) ((0, r), (wr M V)) := by
  change Sem g d YX16_before 0 [(1, 156), (0, x1), (0, x2)] [] (wr M V) ((0, r), (wr M V))
  exact s_X16_before_0 hD hM (P := fun x => x = r) (fun q e => by rw [e]) h rfl
/-! PeerSearchModel.choose(I[II)V -/
theorem dX16_choose_0 : decode cX16_choose 0 = .ok (.aload_n 0, 1) := by decide +kernel
theorem dX16_choose_1 : decode cX16_choose 1 = .ok (.iconst 0, 1) := by decide +kernel
theorem dX16_choose_2 : decode cX16_choose 2 = .ok (.putfield 559, 3) := by decide +kernel
theorem dX16_choose_5 : decode cX16_choose 5 = .ok (.sipush 200, 3) := by decide +kernel
theorem dX16_choose_8 : decode cX16_choose 8 = .ok (.iload_n 1, 1) := by decide +kernel
theorem dX16_choose_9 : decode cX16_choose 9 = .ok (.imul, 1) := by decide +kernel
theorem dX16_choose_10 : decode cX16_choose 10 = .ok (.istore 4, 2) := by decide +kernel
theorem dX16_choose_12 : decode cX16_choose 12 = .ok (.iload 4, 2) := by decide +kernel
theorem dX16_choose_14 : decode cX16_choose 14 = .ok (.sipush 200, 3) := by decide +kernel
theorem dX16_choose_17 : decode cX16_choose 17 = .ok (.iload_n 1, 1) := by decide +kernel
theorem dX16_choose_18 : decode cX16_choose 18 = .ok (.imul, 1) := by decide +kernel
theorem dX16_choose_19 : decode cX16_choose 19 = .ok (.aload_n 0, 1) := by decide +kernel
theorem dX16_choose_20 : decode cX16_choose 20 = .ok (.getfield 177, 3) := by decide +kernel
theorem dX16_choose_23 : decode cX16_choose 23 = .ok (.iload_n 1, 1) := by decide +kernel
theorem dX16_choose_24 : decode cX16_choose 24 = .ok (.iaload, 1) := by decide +kernel
theorem dX16_choose_25 : decode cX16_choose 25 = .ok (.iadd, 1) := by decide +kernel
theorem dX16_choose_26 : decode cX16_choose 26 = .ok (.if_icmp .ge 107, 3) := by decide +kernel
theorem dX16_choose_29 : decode cX16_choose 29 = .ok (.aload_n 0, 1) := by decide +kernel
theorem dX16_choose_30 : decode cX16_choose 30 = .ok (.getfield 180, 3) := by decide +kernel
theorem dX16_choose_33 : decode cX16_choose 33 = .ok (.iconst 5, 1) := by decide +kernel
theorem dX16_choose_34 : decode cX16_choose 34 = .ok (.iload 4, 2) := by decide +kernel
theorem dX16_choose_36 : decode cX16_choose 36 = .ok (.imul, 1) := by decide +kernel
theorem dX16_choose_37 : decode cX16_choose 37 = .ok (.aload_n 2, 1) := by decide +kernel
theorem dX16_choose_38 : decode cX16_choose 38 = .ok (.iload_n 3, 1) := by decide +kernel
theorem dX16_choose_39 : decode cX16_choose 39 = .ok (.invokestatic 434, 3) := by decide +kernel
theorem dX16_choose_42 : decode cX16_choose 42 = .ok (.ifCond .ne 6, 3) := by decide +kernel
theorem dX16_choose_45 : decode cX16_choose 45 = .ok (.goto 82, 3) := by decide +kernel
theorem dX16_choose_48 : decode cX16_choose 48 = .ok (.aload_n 0, 1) := by decide +kernel
theorem dX16_choose_49 : decode cX16_choose 49 = .ok (.getfield 559, 3) := by decide +kernel
theorem dX16_choose_52 : decode cX16_choose 52 = .ok (.istore 5, 2) := by decide +kernel
theorem dX16_choose_54 : decode cX16_choose 54 = .ok (.iload 5, 2) := by decide +kernel
theorem dX16_choose_56 : decode cX16_choose 56 = .ok (.ifCond .le 52, 3) := by decide +kernel
theorem dX16_choose_59 : decode cX16_choose 59 = .ok (.aload_n 0, 1) := by decide +kernel
theorem dX16_choose_60 : decode cX16_choose 60 = .ok (.iload 4, 2) := by decide +kernel
theorem dX16_choose_62 : decode cX16_choose 62 = .ok (.aload_n 0, 1) := by decide +kernel
theorem dX16_choose_63 : decode cX16_choose 63 = .ok (.getfield 195, 3) := by decide +kernel
theorem dX16_choose_66 : decode cX16_choose 66 = .ok (.iload 5, 2) := by decide +kernel
theorem dX16_choose_68 : decode cX16_choose 68 = .ok (.ifCond .le 10, 3) := by decide +kernel
theorem dX16_choose_71 : decode cX16_choose 71 = .ok (.iload 5, 2) := by decide +kernel
theorem dX16_choose_73 : decode cX16_choose 73 = .ok (.iconst 1, 1) := by decide +kernel
theorem dX16_choose_74 : decode cX16_choose 74 = .ok (.isub, 1) := by decide +kernel
theorem dX16_choose_75 : decode cX16_choose 75 = .ok (.goto 4, 3) := by decide +kernel
theorem dX16_choose_78 : decode cX16_choose 78 = .ok (.iconst 0, 1) := by decide +kernel
theorem dX16_choose_79 : decode cX16_choose 79 = .ok (.iaload, 1) := by decide +kernel
theorem dX16_choose_80 : decode cX16_choose 80 = .ok (.invokevirtual 562, 3) := by decide +kernel
theorem dX16_choose_83 : decode cX16_choose 83 = .ok (.ifCond .eq 25, 3) := by decide +kernel
theorem dX16_choose_86 : decode cX16_choose 86 = .ok (.aload_n 0, 1) := by decide +kernel
theorem dX16_choose_87 : decode cX16_choose 87 = .ok (.getfield 195, 3) := by decide +kernel
theorem dX16_choose_90 : decode cX16_choose 90 = .ok (.iload 5, 2) := by decide +kernel
theorem dX16_choose_92 : decode cX16_choose 92 = .ok (.aload_n 0, 1) := by decide +kernel
theorem dX16_choose_93 : decode cX16_choose 93 = .ok (.getfield 195, 3) := by decide +kernel
theorem dX16_choose_96 : decode cX16_choose 96 = .ok (.iload 5, 2) := by decide +kernel
theorem dX16_choose_98 : decode cX16_choose 98 = .ok (.iconst 1, 1) := by decide +kernel
theorem dX16_choose_99 : decode cX16_choose 99 = .ok (.isub, 1) := by decide +kernel
theorem dX16_choose_100 : decode cX16_choose 100 = .ok (.iaload, 1) := by decide +kernel
theorem dX16_choose_101 : decode cX16_choose 101 = .ok (.iastore, 1) := by decide +kernel
theorem dX16_choose_102 : decode cX16_choose 102 = .ok (.iinc 5 (-1), 3) := by decide +kernel
theorem dX16_choose_105 : decode cX16_choose 105 = .ok (.goto (-51), 3) := by decide +kernel
theorem dX16_choose_108 : decode cX16_choose 108 = .ok (.aload_n 0, 1) := by decide +kernel
theorem dX16_choose_109 : decode cX16_choose 109 = .ok (.getfield 195, 3) := by decide +kernel
theorem dX16_choose_112 : decode cX16_choose 112 = .ok (.iload 5, 2) := by decide +kernel
theorem dX16_choose_114 : decode cX16_choose 114 = .ok (.iload 4, 2) := by decide +kernel
theorem dX16_choose_116 : decode cX16_choose 116 = .ok (.iastore, 1) := by decide +kernel
theorem dX16_choose_117 : decode cX16_choose 117 = .ok (.aload_n 0, 1) := by decide +kernel
theorem dX16_choose_118 : decode cX16_choose 118 = .ok (.dup, 1) := by decide +kernel
theorem dX16_choose_119 : decode cX16_choose 119 = .ok (.getfield 559, 3) := by decide +kernel
theorem dX16_choose_122 : decode cX16_choose 122 = .ok (.iconst 1, 1) := by decide +kernel
theorem dX16_choose_123 : decode cX16_choose 123 = .ok (.iadd, 1) := by decide +kernel
theorem dX16_choose_124 : decode cX16_choose 124 = .ok (.putfield 559, 3) := by decide +kernel
theorem dX16_choose_127 : decode cX16_choose 127 = .ok (.iinc 4 1, 3) := by decide +kernel
theorem dX16_choose_130 : decode cX16_choose 130 = .ok (.goto (-118), 3) := by decide +kernel
theorem dX16_choose_133 : decode cX16_choose 133 = .ok (.return_, 1) := by decide +kernel
def j_X16_choose_127 (x1 x2 x3 x4 : Int) (V : VV) : Option ((Int × VV) ⊕ (VV)) :=
  cnt (x4 + 1, V)
def j_X16_choose_108 (x1 x2 x3 x4 x5 : Int) (V : VV) : Option ((Int × VV) ⊕ (VV)) :=
  (s2 216 200 x5 x4 V).bind fun V1 =>
  (p2 72 ((w32 (V1 156 72)) + 1) V1).bind fun V2 =>
  j_X16_choose_127 x1 x2 x3 x4 V2
def j_X16_choose_79 (x1 x2 x3 x4 x5 y1 y3 : Int) (V : VV) : Option ((Int × VV) ⊕ ((Int × VV) ⊕ (VV))) :=
  (l2 216 200 y3 V).bind fun v1 =>
  (f_X16_before y1 v1 V).bind fun v2 =>
  if w32 v2 = 0 then
    xit (j_X16_choose_108 x1 x2 x3 x4 x5 V)
  else
    (l2 216 200 (x5 - 1) V).bind fun v3 =>
    (s2 216 200 x5 v3 V).bind fun V1 =>
    cnt (x5 + (-1), V1)
def b_X16_choose_54 (x1 x2 x3 x4 x5 : Int) (V : VV) : Option ((Int × VV) ⊕ ((Int × VV) ⊕ (VV))) :=
  if 0 < w32 x5 then
    if 0 < w32 x5 then
      j_X16_choose_79 x1 x2 x3 x4 x5 x4 (x5 - 1) V
    else
      j_X16_choose_79 x1 x2 x3 x4 x5 x4 0 V
  else
    xit (j_X16_choose_108 x1 x2 x3 x4 x5 V)
def l_X16_choose_54 (x1 x2 x3 x4 x5 : Int) (V : VV) : Option ((Int × VV) ⊕ (VV)) := lpN (fun s : Int × VV => b_X16_choose_54 x1 x2 x3 x4 s.1 s.2) FU (x5, V)
def b_X16_choose_12 (x1 x2 x3 x4 : Int) (V : VV) : Option ((Int × VV) ⊕ (VV)) :=
  (l2 210 32 x1 V).bind fun v1 =>
  if w32 x4 < w32 ((200 * x1) + v1) then
    (f_X16_same 211 (5 * x4) x2 x3 V).bind fun v2 =>
    if w32 v2 = 0 then
      j_X16_choose_127 x1 x2 x3 x4 V
    else
      l_X16_choose_54 x1 x2 x3 x4 (w32 (V 156 72)) V
  else
    xit (some V)
def l_X16_choose_12 (x1 x2 x3 x4 : Int) (V : VV) : Option (VV) := lpN (fun s : Int × VV => b_X16_choose_12 x1 x2 x3 s.1 s.2) FU (x4, V)
def f_X16_choose (x1 x2 x3 : Int) (V : VV) : Option (VV) :=
  (p2 72 0 V).bind fun V1 =>
  l_X16_choose_12 x1 x2 x3 (200 * x1) V1
theorem s_X16_choose_127 {g : GG} {d : Nat} (hD : 1 ≤ d) {x1 x2 x3 x4 : Int} {M : MM} (hM : LM M) {V : VV} {o : AV × MM} {P : ((Int × VV) ⊕ (VV)) → Prop} (c0 : ∀ s : Int × VV, P (.inl s) → Sem g d YX16_choose 12 [(1, 156), (0, x1), (1, x2), (0, x3), (0, s.1), (9, 0)] [] (wr M s.2) o) (r0 : ∀ r : VV, P (.inr r) → o = ((9, 0), (wr M r))) {z : (Int × VV) ⊕ (VV)} (h : j_X16_choose_127 x1 x2 x3 x4 V = some z) (hz : P z) : Sem g d YX16_choose 127 [(1, 156), (0, x1), (1, x2), (0, x3), (0, x4), (9, 0)] [] (wr M V) o := by
  delta j_X16_choose_127 at h
  refine S_iinc dX16_choose_127 rfl rfl rfl ?_
  change Sem g d YX16_choose 130 [(1, 156), (0, x1), (1, x2), (0, x3), (0, x4 + 1), (9, 0)] [] (wr M V) o
  refine S_goto (tgt := 12) dX16_choose_130 rfl ?_
  exact c0 (x4 + 1, V) (some_P (P := fun r => P r) h hz)
theorem s_X16_choose_108 {g : GG} {d : Nat} (hD : 1 ≤ d) {x1 x2 x3 x4 x5 : Int} {M : MM} (hM : LM M) {V : VV} {o : AV × MM} {P : ((Int × VV) ⊕ (VV)) → Prop} (c0 : ∀ s : Int × VV, P (.inl s) → Sem g d YX16_choose 12 [(1, 156), (0, x1), (1, x2), (0, x3), (0, s.1), (9, 0)] [] (wr M s.2) o) (r0 : ∀ r : VV, P (.inr r) → o = ((9, 0), (wr M r))) {z : (Int × VV) ⊕ (VV)} (h : j_X16_choose_108 x1 x2 x3 x4 x5 V = some z) (hz : P z) : Sem g d YX16_choose 108 [(1, 156), (0, x1), (1, x2), (0, x3), (0, x4), (0, x5)] [] (wr M V) o := by
  delta j_X16_choose_108 at h
  refine S_aload_n (i := 0) dX16_choose_108 rfl rfl ?_
  refine P2_gfr hM (a := 216) FLX16_195 rfl ⟨rfl, rfl⟩ dX16_choose_109 ?_
  refine S_iload dX16_choose_112 rfl ?_
  refine S_iload dX16_choose_114 rfl ?_
  refine P2_sai hM (a := 216) (n := 200) rfl dX16_choose_116 h (fun V1 h => ?_)
  refine S_aload_n (i := 0) dX16_choose_117 rfl rfl ?_
  refine S_dup dX16_choose_118 (Nat.le_of_ble_eq_true rfl) ?_
  refine P2_gfi hM FLX16_559 rfl dX16_choose_119 ?_
  refine S_iconst dX16_choose_122 rfl ?_
  refine S_iadd dX16_choose_123 ?_
  refine P2_pfi hM FLX16_559 FPX16_559 rfl dX16_choose_124 h (fun V2 h => ?_)
  refine S_weak (ls' := [(1, 156), (0, x1), (1, x2), (0, x3), (0, x4), (9, 0)]) ⟨Or.inr rfl, ⟨Or.inr rfl, ⟨Or.inr rfl, ⟨Or.inr rfl, ⟨Or.inr rfl, ⟨Or.inl rfl, trivial⟩⟩⟩⟩⟩⟩ ?_
  exact s_X16_choose_127 hD hM c0 r0 h hz
theorem s_X16_choose_79 {g : GG} {d : Nat} (hD : 1 ≤ d) {x1 x2 x3 x4 x5 y1 y3 : Int} {M : MM} (hM : LM M) {V : VV} {o : AV × MM} {P : ((Int × VV) ⊕ ((Int × VV) ⊕ (VV))) → Prop} (c1 : ∀ s : Int × VV, P (.inl s) → Sem g d YX16_choose 54 [(1, 156), (0, x1), (1, x2), (0, x3), (0, x4), (0, s.1)] [] (wr M s.2) o) (c0 : ∀ s : Int × VV, P (.inr (.inl s)) → Sem g d YX16_choose 12 [(1, 156), (0, x1), (1, x2), (0, x3), (0, s.1), (9, 0)] [] (wr M s.2) o) (r0 : ∀ r : VV, P (.inr (.inr r)) → o = ((9, 0), (wr M r))) {z : (Int × VV) ⊕ ((Int × VV) ⊕ (VV))} (h : j_X16_choose_79 x1 x2 x3 x4 x5 y1 y3 V = some z) (hz : P z) : Sem g d YX16_choose 79 [(1, 156), (0, x1), (1, x2), (0, x3), (0, x4), (0, x5)] [(0, y3), (1, 216), (0, y1), (1, 156)] (wr M V) o := by
  delta j_X16_choose_79 at h
  refine P2_lai hM (a := 216) (n := 200) rfl dX16_choose_79 h (fun v1 h => ?_)
  refine P2_invVp hM 0 [(0, y1), (0, v1)] [] CVX16_before MLX16_562 dX16_choose_80 rfl rfl rfl rfl rfl (by omega) h (fun r h => F_X16_before (by omega) hM h) (fun v2 h => ?_)
  refine P_if_eq (tgt := 108) dX16_choose_83 rfl h (fun h => ?_) (fun h => ?_)
  · obtain ⟨z0, h, hz⟩ := xit_some' (P := fun r => P r) h hz
    exact s_X16_choose_108 hD hM (P := fun r => P (.inr r)) c0 r0 h hz
  · refine S_aload_n (i := 0) dX16_choose_86 rfl rfl ?_
    refine P2_gfr hM (a := 216) FLX16_195 rfl ⟨rfl, rfl⟩ dX16_choose_87 ?_
    refine S_iload dX16_choose_90 rfl ?_
    refine S_aload_n (i := 0) dX16_choose_92 rfl rfl ?_
    refine P2_gfr hM (a := 216) FLX16_195 rfl ⟨rfl, rfl⟩ dX16_choose_93 ?_
    refine S_iload dX16_choose_96 rfl ?_
    refine S_iconst dX16_choose_98 rfl ?_
    refine S_isub dX16_choose_99 ?_
    refine P2_lai hM (a := 216) (n := 200) rfl dX16_choose_100 h (fun v3 h => ?_)
    refine P2_sai hM (a := 216) (n := 200) rfl dX16_choose_101 h (fun V1 h => ?_)
    refine S_iinc dX16_choose_102 rfl rfl rfl ?_
    change Sem g d YX16_choose 105 [(1, 156), (0, x1), (1, x2), (0, x3), (0, x4), (0, x5 + (-1))] [] (wr M V1) o
    refine S_goto (tgt := 54) dX16_choose_105 rfl ?_
    exact c1 (x5 + (-1), V1) (some_P (P := fun r => P r) h hz)
theorem s_X16_choose_54 {g : GG} {d : Nat} (hD : 1 ≤ d) {x1 x2 x3 x4 x5 : Int} {M : MM} (hM : LM M) {V : VV} {o : AV × MM} {P : ((Int × VV) ⊕ ((Int × VV) ⊕ (VV))) → Prop} (c1 : ∀ s : Int × VV, P (.inl s) → Sem g d YX16_choose 54 [(1, 156), (0, x1), (1, x2), (0, x3), (0, x4), (0, s.1)] [] (wr M s.2) o) (c0 : ∀ s : Int × VV, P (.inr (.inl s)) → Sem g d YX16_choose 12 [(1, 156), (0, x1), (1, x2), (0, x3), (0, s.1), (9, 0)] [] (wr M s.2) o) (r0 : ∀ r : VV, P (.inr (.inr r)) → o = ((9, 0), (wr M r))) {z : (Int × VV) ⊕ ((Int × VV) ⊕ (VV))} (h : b_X16_choose_54 x1 x2 x3 x4 x5 V = some z) (hz : P z) : Sem g d YX16_choose 54 [(1, 156), (0, x1), (1, x2), (0, x3), (0, x4), (0, x5)] [] (wr M V) o := by
  delta b_X16_choose_54 at h
  refine S_iload dX16_choose_54 rfl ?_
  refine P_if_le (tgt := 108) dX16_choose_56 rfl h (fun h => ?_) (fun h => ?_)
  · obtain ⟨z0, h, hz⟩ := xit_some' (P := fun r => P r) h hz
    exact s_X16_choose_108 hD hM (P := fun r => P (.inr r)) c0 r0 h hz
  · refine S_aload_n (i := 0) dX16_choose_59 rfl rfl ?_
    refine S_iload dX16_choose_60 rfl ?_
    refine S_aload_n (i := 0) dX16_choose_62 rfl rfl ?_
    refine P2_gfr hM (a := 216) FLX16_195 rfl ⟨rfl, rfl⟩ dX16_choose_63 ?_
    refine S_iload dX16_choose_66 rfl ?_
    refine P_if_le (tgt := 78) dX16_choose_68 rfl h (fun h => ?_) (fun h => ?_)
    · refine S_iconst dX16_choose_78 rfl ?_
      exact s_X16_choose_79 hD hM c1 c0 r0 h hz
    · refine S_iload dX16_choose_71 rfl ?_
      refine S_iconst dX16_choose_73 rfl ?_
      refine S_isub dX16_choose_74 ?_
      refine S_goto (tgt := 79) dX16_choose_75 rfl ?_
      exact s_X16_choose_79 hD hM c1 c0 r0 h hz
theorem sl_X16_choose_54 {g : GG} {d : Nat} (hD : 1 ≤ d) {x1 x2 x3 x4 x5 : Int} {M : MM} (hM : LM M) {V : VV} {o : AV × MM} {P : ((Int × VV) ⊕ (VV)) → Prop} (c0 : ∀ s : Int × VV, P (.inl s) → Sem g d YX16_choose 12 [(1, 156), (0, x1), (1, x2), (0, x3), (0, s.1), (9, 0)] [] (wr M s.2) o) (r0 : ∀ r : VV, P (.inr r) → o = ((9, 0), (wr M r))) {z : (Int × VV) ⊕ (VV)} (h : l_X16_choose_54 x1 x2 x3 x4 x5 V = some z) (hz : P z) : Sem g d YX16_choose 54 [(1, 156), (0, x1), (1, x2), (0, x3), (0, x4), (0, x5)] [] (wr M V) o := by
  refine lp_sound (S := fun s : Int × VV => Sem g d YX16_choose 54 [(1, 156), (0, x1), (1, x2), (0, x3), (0, x4), (0, s.1)] [] (wr M s.2) o) (P := P) ?_ FU (x5, V) z h hz
  intro s x hx hP
  exact s_X16_choose_54 hD hM (P := Sum.elim (fun s : Int × VV => Sem g d YX16_choose 54 [(1, 156), (0, x1), (1, x2), (0, x3), (0, x4), (0, s.1)] [] (wr M s.2) o) P) (fun s h => h) (fun s h => c0 s h) (fun s h => r0 s h) hx hP
theorem s_X16_choose_12 {g : GG} {d : Nat} (hD : 1 ≤ d) {x1 x2 x3 x4 : Int} {M : MM} (hM : LM M) {V : VV} {o : AV × MM} {P : ((Int × VV) ⊕ (VV)) → Prop} (c0 : ∀ s : Int × VV, P (.inl s) → Sem g d YX16_choose 12 [(1, 156), (0, x1), (1, x2), (0, x3), (0, s.1), (9, 0)] [] (wr M s.2) o) (r0 : ∀ r : VV, P (.inr r) → o = ((9, 0), (wr M r))) {z : (Int × VV) ⊕ (VV)} (h : b_X16_choose_12 x1 x2 x3 x4 V = some z) (hz : P z) : Sem g d YX16_choose 12 [(1, 156), (0, x1), (1, x2), (0, x3), (0, x4), (9, 0)] [] (wr M V) o := by
  delta b_X16_choose_12 at h
  refine S_iload dX16_choose_12 rfl ?_
  refine S_sipush (z := 200) dX16_choose_14 rfl ?_
  refine S_iload_n (i := 1) dX16_choose_17 rfl rfl ?_
  refine S_imul dX16_choose_18 ?_
  refine S_aload_n (i := 0) dX16_choose_19 rfl rfl ?_
  refine P2_gfr hM (a := 210) FLX16_177 rfl ⟨rfl, rfl⟩ dX16_choose_20 ?_
  refine S_iload_n (i := 1) dX16_choose_23 rfl rfl ?_
  refine P2_lai hM (a := 210) (n := 32) rfl dX16_choose_24 h (fun v1 h => ?_)
  refine S_iadd dX16_choose_25 ?_
  refine P_icmp_ge (tgt := 133) dX16_choose_26 rfl h (fun h => ?_) (fun h => ?_)
  · obtain ⟨z0, h, hz⟩ := xit_some' (P := fun r => P r) h hz
    obtain rfl := r0 _ (some_P (P := fun r => P (.inr r)) h hz)
    exact S_return dX16_choose_133 rfl
  · refine S_aload_n (i := 0) dX16_choose_29 rfl rfl ?_
    refine P2_gfr hM (a := 211) FLX16_180 rfl ⟨rfl, rfl⟩ dX16_choose_30 ?_
    refine S_iconst dX16_choose_33 rfl ?_
    refine S_iload dX16_choose_34 rfl ?_
    refine S_imul dX16_choose_36 ?_
    refine S_aload_n (i := 2) dX16_choose_37 rfl rfl ?_
    refine S_iload_n (i := 3) dX16_choose_38 rfl rfl ?_
    refine P_invSp 0 [(1, 211), (0, 5 * x4), (1, x2), (0, x3)] [] CSX16_same MLX16_434 dX16_choose_39 rfl rfl rfl rfl rfl (by omega) h (fun r h => F_X16_same (by omega) hM h) (fun v2 h => ?_)
    refine P_if_ne (tgt := 48) dX16_choose_42 rfl h (fun h => ?_) (fun h => ?_)
    · refine S_aload_n (i := 0) dX16_choose_48 rfl rfl ?_
      refine P2_gfi hM FLX16_559 rfl dX16_choose_49 ?_
      refine S_istore dX16_choose_52 (Nat.le_of_ble_eq_true rfl) rfl rfl ?_
      change Sem g d YX16_choose 54 [(1, 156), (0, x1), (1, x2), (0, x3), (0, x4), (0, w32 (V 156 72))] [] (wr M V) o
      exact sl_X16_choose_54 hD hM c0 r0 h hz
    · refine S_goto (tgt := 127) dX16_choose_45 rfl ?_
      exact s_X16_choose_127 hD hM c0 r0 h hz
theorem sl_X16_choose_12 {g : GG} {d : Nat} (hD : 1 ≤ d) {x1 x2 x3 x4 : Int} {M : MM} (hM : LM M) {V : VV} {o : AV × MM} {P : (VV) → Prop} (r0 : ∀ r : VV, P r → o = ((9, 0), (wr M r))) {z : VV} (h : l_X16_choose_12 x1 x2 x3 x4 V = some z) (hz : P z) : Sem g d YX16_choose 12 [(1, 156), (0, x1), (1, x2), (0, x3), (0, x4), (9, 0)] [] (wr M V) o := by
  refine lp_sound (S := fun s : Int × VV => Sem g d YX16_choose 12 [(1, 156), (0, x1), (1, x2), (0, x3), (0, s.1), (9, 0)] [] (wr M s.2) o) (P := P) ?_ FU (x4, V) z h hz
  intro s x hx hP
  exact s_X16_choose_12 hD hM (P := Sum.elim (fun s : Int × VV => Sem g d YX16_choose 12 [(1, 156), (0, x1), (1, x2), (0, x3), (0, s.1), (9, 0)] [] (wr M s.2) o) P) (fun s h => h) (fun s h => r0 s h) hx hP
theorem s_X16_choose_0 {g : GG} {d : Nat} (hD : 1 ≤ d) {x1 x2 x3 : Int} {M : MM} (hM : LM M) {V : VV} {o : AV × MM} {P : (VV) → Prop} (r0 : ∀ r : VV, P r → o = ((9, 0), (wr M r))) {z : VV} (h : f_X16_choose x1 x2 x3 V = some z) (hz : P z) : Sem g d YX16_choose 0 [(1, 156), (0, x1), (1, x2), (0, x3), (9, 0), (9, 0)] [] (wr M V) o := by
  delta f_X16_choose at h
  refine S_aload_n (i := 0) dX16_choose_0 rfl rfl ?_
  refine S_iconst dX16_choose_1 rfl ?_
  refine P2_pfi hM FLX16_559 FPX16_559 rfl dX16_choose_2 h (fun V1 h => ?_)
  refine S_sipush (z := 200) dX16_choose_5 rfl ?_
  refine S_iload_n (i := 1) dX16_choose_8 rfl rfl ?_
  refine S_imul dX16_choose_9 ?_
  refine S_istore dX16_choose_10 (Nat.le_of_ble_eq_true rfl) rfl rfl ?_
  change Sem g d YX16_choose 12 [(1, 156), (0, x1), (1, x2), (0, x3), (0, 200 * x1), (9, 0)] [] (wr M V1) o
  exact sl_X16_choose_12 hD hM r0 h hz
theorem F_X16_choose {g : GG} {d : Nat} (hD : 1 ≤ d) {x1 x2 x3 : Int} {M : MM} (hM : LM M) {V : VV} {r : VV} (h : f_X16_choose x1 x2 x3 V = some r) : Sem g d YX16_choose 0 (ini YX16_choose [(1, 156), (0, x1), (1, x2), (0, x3)]) [] (wr M V) ((9, 0), (wr M r)) := by
  change Sem g d YX16_choose 0 [(1, 156), (0, x1), (1, x2), (0, x3), (9, 0), (9, 0)] [] (wr M V) ((9, 0), (wr M r))
  exact s_X16_choose_0 hD hM (P := fun x => x = r) (fun q e => by rw [e]) h rfl
/-! PeerSearchModel.isOwn(I[II)Z -/
theorem dX16_isOwn_0 : decode cX16_isOwn 0 = .ok (.aload_n 2, 1) := by decide +kernel
theorem dX16_isOwn_1 : decode cX16_isOwn 1 = .ok (.iload_n 3, 1) := by decide +kernel
theorem dX16_isOwn_2 : decode cX16_isOwn 2 = .ok (.aload_n 0, 1) := by decide +kernel
theorem dX16_isOwn_3 : decode cX16_isOwn 3 = .ok (.getfield 36, 3) := by decide +kernel
theorem dX16_isOwn_6 : decode cX16_isOwn 6 = .ok (.iconst 5, 1) := by decide +kernel
theorem dX16_isOwn_7 : decode cX16_isOwn 7 = .ok (.aload_n 0, 1) := by decide +kernel
theorem dX16_isOwn_8 : decode cX16_isOwn 8 = .ok (.getfield 231, 3) := by decide +kernel
theorem dX16_isOwn_11 : decode cX16_isOwn 11 = .ok (.iload_n 1, 1) := by decide +kernel
theorem dX16_isOwn_12 : decode cX16_isOwn 12 = .ok (.iaload, 1) := by decide +kernel
theorem dX16_isOwn_13 : decode cX16_isOwn 13 = .ok (.imul, 1) := by decide +kernel
theorem dX16_isOwn_14 : decode cX16_isOwn 14 = .ok (.invokestatic 434, 3) := by decide +kernel
theorem dX16_isOwn_17 : decode cX16_isOwn 17 = .ok (.ireturn, 1) := by decide +kernel
def f_X16_isOwn (x1 x2 x3 : Int) (V : VV) : Option (Int) :=
  (l2 228 44 x1 V).bind fun v1 =>
  (f_X16_same x2 x3 165 (5 * v1) V).bind fun v2 =>
  bz v2 (some v2)
theorem s_X16_isOwn_0 {g : GG} {d : Nat} (hD : 1 ≤ d) {x1 x2 x3 : Int} {M : MM} (hM : LM M) {V : VV} {o : AV × MM} {P : (Int) → Prop} (r0 : ∀ r : Int, P r → o = ((0, r), (wr M V))) {z : Int} (h : f_X16_isOwn x1 x2 x3 V = some z) (hz : P z) : Sem g d YX16_isOwn 0 [(1, 156), (0, x1), (1, x2), (0, x3)] [] (wr M V) o := by
  delta f_X16_isOwn at h
  refine S_aload_n (i := 2) dX16_isOwn_0 rfl rfl ?_
  refine S_iload_n (i := 3) dX16_isOwn_1 rfl rfl ?_
  refine S_aload_n (i := 0) dX16_isOwn_2 rfl rfl ?_
  refine P2_gfr hM (a := 165) FLX16_36 rfl ⟨rfl, rfl⟩ dX16_isOwn_3 ?_
  refine S_iconst dX16_isOwn_6 rfl ?_
  refine S_aload_n (i := 0) dX16_isOwn_7 rfl rfl ?_
  refine P2_gfr hM (a := 228) FLX16_231 rfl ⟨rfl, rfl⟩ dX16_isOwn_8 ?_
  refine S_iload_n (i := 1) dX16_isOwn_11 rfl rfl ?_
  refine P2_lai hM (a := 228) (n := 44) rfl dX16_isOwn_12 h (fun v1 h => ?_)
  refine S_imul dX16_isOwn_13 ?_
  refine P_invSp 0 [(1, x2), (0, x3), (1, 165), (0, 5 * v1)] [] CSX16_same MLX16_434 dX16_isOwn_14 rfl rfl rfl rfl rfl (by omega) h (fun r h => F_X16_same (by omega) hM h) (fun v2 h => ?_)
  obtain ⟨hb, h⟩ := bz_some h
  obtain rfl := r0 _ (some_P (P := fun r => P r) h hz)
  exact P_ret dX16_isOwn_17 rfl (Or.inr ⟨rfl, hb⟩)
theorem F_X16_isOwn {g : GG} {d : Nat} (hD : 1 ≤ d) {x1 x2 x3 : Int} {M : MM} (hM : LM M) {V : VV} {r : Int} (h : f_X16_isOwn x1 x2 x3 V = some r) : Sem g d YX16_isOwn 0 (ini YX16_isOwn [(1, 156), (0, x1), (1, x2), (0, x3)]) [] (wr M V) ((0, r), (wr M V)) := by
  change Sem g d YX16_isOwn 0 [(1, 156), (0, x1), (1, x2), (0, x3)] [] (wr M V) ((0, r), (wr M V))
  exact s_X16_isOwn_0 hD hM (P := fun x => x = r) (fun q e => by rw [e]) h rfl
/-! PeerSearchModel.holder(I)V -/
theorem dX16_holder_0 : decode cX16_holder 0 = .ok (.aload_n 0, 1) := by decide +kernel
theorem dX16_holder_1 : decode cX16_holder 1 = .ok (.getfield 231, 3) := by decide +kernel
theorem dX16_holder_4 : decode cX16_holder 4 = .ok (.iload_n 1, 1) := by decide +kernel
theorem dX16_holder_5 : decode cX16_holder 5 = .ok (.iaload, 1) := by decide +kernel
theorem dX16_holder_6 : decode cX16_holder 6 = .ok (.istore_n 2, 1) := by decide +kernel
theorem dX16_holder_7 : decode cX16_holder 7 = .ok (.iconst 3, 1) := by decide +kernel
theorem dX16_holder_8 : decode cX16_holder 8 = .ok (.iload_n 1, 1) := by decide +kernel
theorem dX16_holder_9 : decode cX16_holder 9 = .ok (.imul, 1) := by decide +kernel
theorem dX16_holder_10 : decode cX16_holder 10 = .ok (.aload_n 0, 1) := by decide +kernel
theorem dX16_holder_11 : decode cX16_holder 11 = .ok (.getfield 291, 3) := by decide +kernel
theorem dX16_holder_14 : decode cX16_holder 14 = .ok (.iload_n 1, 1) := by decide +kernel
theorem dX16_holder_15 : decode cX16_holder 15 = .ok (.iaload, 1) := by decide +kernel
theorem dX16_holder_16 : decode cX16_holder 16 = .ok (.iadd, 1) := by decide +kernel
theorem dX16_holder_17 : decode cX16_holder 17 = .ok (.istore_n 3, 1) := by decide +kernel
theorem dX16_holder_18 : decode cX16_holder 18 = .ok (.iconst 0, 1) := by decide +kernel
theorem dX16_holder_19 : decode cX16_holder 19 = .ok (.istore 4, 2) := by decide +kernel
theorem dX16_holder_21 : decode cX16_holder 21 = .ok (.iconst 0, 1) := by decide +kernel
theorem dX16_holder_22 : decode cX16_holder 22 = .ok (.istore 5, 2) := by decide +kernel
theorem dX16_holder_24 : decode cX16_holder 24 = .ok (.iload 5, 2) := by decide +kernel
theorem dX16_holder_26 : decode cX16_holder 26 = .ok (.aload_n 0, 1) := by decide +kernel
theorem dX16_holder_27 : decode cX16_holder 27 = .ok (.getfield 628, 3) := by decide +kernel
theorem dX16_holder_30 : decode cX16_holder 30 = .ok (.if_icmp .ge 113, 3) := by decide +kernel
theorem dX16_holder_33 : decode cX16_holder 33 = .ok (.iload 4, 2) := by decide +kernel
theorem dX16_holder_35 : decode cX16_holder 35 = .ok (.ifCond .ne 108, 3) := by decide +kernel
theorem dX16_holder_38 : decode cX16_holder 38 = .ok (.aload_n 0, 1) := by decide +kernel
theorem dX16_holder_39 : decode cX16_holder 39 = .ok (.getfield 267, 3) := by decide +kernel
theorem dX16_holder_42 : decode cX16_holder 42 = .ok (.iload 5, 2) := by decide +kernel
theorem dX16_holder_44 : decode cX16_holder 44 = .ok (.iaload, 1) := by decide +kernel
theorem dX16_holder_45 : decode cX16_holder 45 = .ok (.istore 6, 2) := by decide +kernel
theorem dX16_holder_47 : decode cX16_holder 47 = .ok (.aload_n 0, 1) := by decide +kernel
theorem dX16_holder_48 : decode cX16_holder 48 = .ok (.getfield 261, 3) := by decide +kernel
theorem dX16_holder_51 : decode cX16_holder 51 = .ok (.iload 6, 2) := by decide +kernel
theorem dX16_holder_53 : decode cX16_holder 53 = .ok (.iaload, 1) := by decide +kernel
theorem dX16_holder_54 : decode cX16_holder 54 = .ok (.istore 7, 2) := by decide +kernel
theorem dX16_holder_56 : decode cX16_holder 56 = .ok (.aload_n 0, 1) := by decide +kernel
theorem dX16_holder_57 : decode cX16_holder 57 = .ok (.iload_n 1, 1) := by decide +kernel
theorem dX16_holder_58 : decode cX16_holder 58 = .ok (.aload_n 0, 1) := by decide +kernel
theorem dX16_holder_59 : decode cX16_holder 59 = .ok (.getfield 252, 3) := by decide +kernel
theorem dX16_holder_62 : decode cX16_holder 62 = .ok (.iconst 5, 1) := by decide +kernel
theorem dX16_holder_63 : decode cX16_holder 63 = .ok (.iload 6, 2) := by decide +kernel
theorem dX16_holder_65 : decode cX16_holder 65 = .ok (.imul, 1) := by decide +kernel
theorem dX16_holder_66 : decode cX16_holder 66 = .ok (.invokevirtual 686, 3) := by decide +kernel
theorem dX16_holder_69 : decode cX16_holder 69 = .ok (.ifCond .eq 21, 3) := by decide +kernel
theorem dX16_holder_72 : decode cX16_holder 72 = .ok (.aload_n 0, 1) := by decide +kernel
theorem dX16_holder_73 : decode cX16_holder 73 = .ok (.iload_n 2, 1) := by decide +kernel
theorem dX16_holder_74 : decode cX16_holder 74 = .ok (.aload_n 0, 1) := by decide +kernel
theorem dX16_holder_75 : decode cX16_holder 75 = .ok (.getfield 294, 3) := by decide +kernel
theorem dX16_holder_78 : decode cX16_holder 78 = .ok (.iconst 5, 1) := by decide +kernel
theorem dX16_holder_79 : decode cX16_holder 79 = .ok (.iload_n 3, 1) := by decide +kernel
theorem dX16_holder_80 : decode cX16_holder 80 = .ok (.imul, 1) := by decide +kernel
theorem dX16_holder_81 : decode cX16_holder 81 = .ok (.invokevirtual 598, 3) := by decide +kernel
theorem dX16_holder_84 : decode cX16_holder 84 = .ok (.aload_n 0, 1) := by decide +kernel
theorem dX16_holder_85 : decode cX16_holder 85 = .ok (.getfield 559, 3) := by decide +kernel
theorem dX16_holder_88 : decode cX16_holder 88 = .ok (.istore 7, 2) := by decide +kernel
theorem dX16_holder_90 : decode cX16_holder 90 = .ok (.iload 7, 2) := by decide +kernel
theorem dX16_holder_92 : decode cX16_holder 92 = .ok (.ifCond .le 45, 3) := by decide +kernel
theorem dX16_holder_95 : decode cX16_holder 95 = .ok (.iconst 1, 1) := by decide +kernel
theorem dX16_holder_96 : decode cX16_holder 96 = .ok (.istore 4, 2) := by decide +kernel
theorem dX16_holder_98 : decode cX16_holder 98 = .ok (.aload_n 0, 1) := by decide +kernel
theorem dX16_holder_99 : decode cX16_holder 99 = .ok (.getfield 297, 3) := by decide +kernel
theorem dX16_holder_102 : decode cX16_holder 102 = .ok (.iload_n 3, 1) := by decide +kernel
theorem dX16_holder_103 : decode cX16_holder 103 = .ok (.aload_n 0, 1) := by decide +kernel
theorem dX16_holder_104 : decode cX16_holder 104 = .ok (.getfield 255, 3) := by decide +kernel
theorem dX16_holder_107 : decode cX16_holder 107 = .ok (.iload 6, 2) := by decide +kernel
theorem dX16_holder_109 : decode cX16_holder 109 = .ok (.iaload, 1) := by decide +kernel
theorem dX16_holder_110 : decode cX16_holder 110 = .ok (.iastore, 1) := by decide +kernel
theorem dX16_holder_111 : decode cX16_holder 111 = .ok (.aload_n 0, 1) := by decide +kernel
theorem dX16_holder_112 : decode cX16_holder 112 = .ok (.getfield 300, 3) := by decide +kernel
theorem dX16_holder_115 : decode cX16_holder 115 = .ok (.iconst 5, 1) := by decide +kernel
theorem dX16_holder_116 : decode cX16_holder 116 = .ok (.iload_n 3, 1) := by decide +kernel
theorem dX16_holder_117 : decode cX16_holder 117 = .ok (.imul, 1) := by decide +kernel
theorem dX16_holder_118 : decode cX16_holder 118 = .ok (.aload_n 0, 1) := by decide +kernel
theorem dX16_holder_119 : decode cX16_holder 119 = .ok (.getfield 252, 3) := by decide +kernel
theorem dX16_holder_122 : decode cX16_holder 122 = .ok (.iconst 5, 1) := by decide +kernel
theorem dX16_holder_123 : decode cX16_holder 123 = .ok (.iload 6, 2) := by decide +kernel
theorem dX16_holder_125 : decode cX16_holder 125 = .ok (.imul, 1) := by decide +kernel
theorem dX16_holder_126 : decode cX16_holder 126 = .ok (.invokestatic 438, 3) := by decide +kernel
theorem dX16_holder_129 : decode cX16_holder 129 = .ok (.aload_n 0, 1) := by decide +kernel
theorem dX16_holder_130 : decode cX16_holder 130 = .ok (.getfield 303, 3) := by decide +kernel
theorem dX16_holder_133 : decode cX16_holder 133 = .ok (.iload_n 3, 1) := by decide +kernel
theorem dX16_holder_134 : decode cX16_holder 134 = .ok (.iload 7, 2) := by decide +kernel
theorem dX16_holder_136 : decode cX16_holder 136 = .ok (.iastore, 1) := by decide +kernel
theorem dX16_holder_137 : decode cX16_holder 137 = .ok (.iinc 5 1, 3) := by decide +kernel
theorem dX16_holder_140 : decode cX16_holder 140 = .ok (.goto (-116), 3) := by decide +kernel
theorem dX16_holder_143 : decode cX16_holder 143 = .ok (.iload 4, 2) := by decide +kernel
theorem dX16_holder_145 : decode cX16_holder 145 = .ok (.ifCond .ne 10, 3) := by decide +kernel
theorem dX16_holder_148 : decode cX16_holder 148 = .ok (.aload_n 0, 1) := by decide +kernel
theorem dX16_holder_149 : decode cX16_holder 149 = .ok (.iload_n 1, 1) := by decide +kernel
theorem dX16_holder_150 : decode cX16_holder 150 = .ok (.iconst 1, 1) := by decide +kernel
theorem dX16_holder_151 : decode cX16_holder 151 = .ok (.invokevirtual 659, 3) := by decide +kernel
theorem dX16_holder_154 : decode cX16_holder 154 = .ok (.return_, 1) := by decide +kernel
theorem dX16_holder_155 : decode cX16_holder 155 = .ok (.aload_n 0, 1) := by decide +kernel
theorem dX16_holder_156 : decode cX16_holder 156 = .ok (.getfield 291, 3) := by decide +kernel
theorem dX16_holder_159 : decode cX16_holder 159 = .ok (.iload_n 1, 1) := by decide +kernel
theorem dX16_holder_160 : decode cX16_holder 160 = .ok (.dup2, 1) := by decide +kernel
theorem dX16_holder_161 : decode cX16_holder 161 = .ok (.iaload, 1) := by decide +kernel
theorem dX16_holder_162 : decode cX16_holder 162 = .ok (.iconst 1, 1) := by decide +kernel
theorem dX16_holder_163 : decode cX16_holder 163 = .ok (.iadd, 1) := by decide +kernel
theorem dX16_holder_164 : decode cX16_holder 164 = .ok (.iastore, 1) := by decide +kernel
theorem dX16_holder_165 : decode cX16_holder 165 = .ok (.aload_n 0, 1) := by decide +kernel
theorem dX16_holder_166 : decode cX16_holder 166 = .ok (.getfield 291, 3) := by decide +kernel
theorem dX16_holder_169 : decode cX16_holder 169 = .ok (.iload_n 1, 1) := by decide +kernel
theorem dX16_holder_170 : decode cX16_holder 170 = .ok (.iaload, 1) := by decide +kernel
theorem dX16_holder_171 : decode cX16_holder 171 = .ok (.aload_n 0, 1) := by decide +kernel
theorem dX16_holder_172 : decode cX16_holder 172 = .ok (.getfield 288, 3) := by decide +kernel
theorem dX16_holder_175 : decode cX16_holder 175 = .ok (.iload_n 1, 1) := by decide +kernel
theorem dX16_holder_176 : decode cX16_holder 176 = .ok (.iaload, 1) := by decide +kernel
theorem dX16_holder_177 : decode cX16_holder 177 = .ok (.if_icmp .ge 19, 3) := by decide +kernel
theorem dX16_holder_180 : decode cX16_holder 180 = .ok (.aload_n 0, 1) := by decide +kernel
theorem dX16_holder_181 : decode cX16_holder 181 = .ok (.iload_n 1, 1) := by decide +kernel
theorem dX16_holder_182 : decode cX16_holder 182 = .ok (.aload_n 0, 1) := by decide +kernel
theorem dX16_holder_183 : decode cX16_holder 183 = .ok (.getfield 294, 3) := by decide +kernel
theorem dX16_holder_186 : decode cX16_holder 186 = .ok (.iconst 5, 1) := by decide +kernel
theorem dX16_holder_187 : decode cX16_holder 187 = .ok (.iload_n 3, 1) := by decide +kernel
theorem dX16_holder_188 : decode cX16_holder 188 = .ok (.iconst 1, 1) := by decide +kernel
theorem dX16_holder_189 : decode cX16_holder 189 = .ok (.iadd, 1) := by decide +kernel
theorem dX16_holder_190 : decode cX16_holder 190 = .ok (.imul, 1) := by decide +kernel
theorem dX16_holder_191 : decode cX16_holder 191 = .ok (.iconst 1, 1) := by decide +kernel
theorem dX16_holder_192 : decode cX16_holder 192 = .ok (.invokevirtual 668, 3) := by decide +kernel
theorem dX16_holder_195 : decode cX16_holder 195 = .ok (.return_, 1) := by decide +kernel
theorem dX16_holder_196 : decode cX16_holder 196 = .ok (.iconst 0, 1) := by decide +kernel
theorem dX16_holder_197 : decode cX16_holder 197 = .ok (.istore 5, 2) := by decide +kernel
theorem dX16_holder_199 : decode cX16_holder 199 = .ok (.iload 5, 2) := by decide +kernel
theorem dX16_holder_201 : decode cX16_holder 201 = .ok (.aload_n 0, 1) := by decide +kernel
theorem dX16_holder_202 : decode cX16_holder 202 = .ok (.getfield 288, 3) := by decide +kernel
theorem dX16_holder_205 : decode cX16_holder 205 = .ok (.iload_n 1, 1) := by decide +kernel
theorem dX16_holder_206 : decode cX16_holder 206 = .ok (.iaload, 1) := by decide +kernel
theorem dX16_holder_207 : decode cX16_holder 207 = .ok (.if_icmp .ge 106, 3) := by decide +kernel
theorem dX16_holder_210 : decode cX16_holder 210 = .ok (.iload 5, 2) := by decide +kernel
theorem dX16_holder_212 : decode cX16_holder 212 = .ok (.istore 6, 2) := by decide +kernel
theorem dX16_holder_214 : decode cX16_holder 214 = .ok (.iload 6, 2) := by decide +kernel
theorem dX16_holder_216 : decode cX16_holder 216 = .ok (.ifCond .le 74, 3) := by decide +kernel
theorem dX16_holder_219 : decode cX16_holder 219 = .ok (.aload_n 0, 1) := by decide +kernel
theorem dX16_holder_220 : decode cX16_holder 220 = .ok (.getfield 303, 3) := by decide +kernel
theorem dX16_holder_223 : decode cX16_holder 223 = .ok (.iconst 3, 1) := by decide +kernel
theorem dX16_holder_224 : decode cX16_holder 224 = .ok (.iload_n 1, 1) := by decide +kernel
theorem dX16_holder_225 : decode cX16_holder 225 = .ok (.imul, 1) := by decide +kernel
theorem dX16_holder_226 : decode cX16_holder 226 = .ok (.iload 5, 2) := by decide +kernel
theorem dX16_holder_228 : decode cX16_holder 228 = .ok (.iadd, 1) := by decide +kernel
theorem dX16_holder_229 : decode cX16_holder 229 = .ok (.iaload, 1) := by decide +kernel
theorem dX16_holder_230 : decode cX16_holder 230 = .ok (.aload_n 0, 1) := by decide +kernel
theorem dX16_holder_231 : decode cX16_holder 231 = .ok (.getfield 303, 3) := by decide +kernel
theorem dX16_holder_234 : decode cX16_holder 234 = .ok (.aload_n 0, 1) := by decide +kernel
theorem dX16_holder_235 : decode cX16_holder 235 = .ok (.getfield 306, 3) := by decide +kernel
theorem dX16_holder_238 : decode cX16_holder 238 = .ok (.iconst 3, 1) := by decide +kernel
theorem dX16_holder_239 : decode cX16_holder 239 = .ok (.iload_n 1, 1) := by decide +kernel
theorem dX16_holder_240 : decode cX16_holder 240 = .ok (.imul, 1) := by decide +kernel
theorem dX16_holder_241 : decode cX16_holder 241 = .ok (.iload 6, 2) := by decide +kernel
theorem dX16_holder_243 : decode cX16_holder 243 = .ok (.ifCond .le 10, 3) := by decide +kernel
theorem dX16_holder_246 : decode cX16_holder 246 = .ok (.iload 6, 2) := by decide +kernel
theorem dX16_holder_248 : decode cX16_holder 248 = .ok (.iconst 1, 1) := by decide +kernel
theorem dX16_holder_249 : decode cX16_holder 249 = .ok (.isub, 1) := by decide +kernel
theorem dX16_holder_250 : decode cX16_holder 250 = .ok (.goto 4, 3) := by decide +kernel
theorem dX16_holder_253 : decode cX16_holder 253 = .ok (.iconst 0, 1) := by decide +kernel
theorem dX16_holder_254 : decode cX16_holder 254 = .ok (.iadd, 1) := by decide +kernel
theorem dX16_holder_255 : decode cX16_holder 255 = .ok (.iaload, 1) := by decide +kernel
theorem dX16_holder_256 : decode cX16_holder 256 = .ok (.iaload, 1) := by decide +kernel
theorem dX16_holder_257 : decode cX16_holder 257 = .ok (.if_icmp .ge 33, 3) := by decide +kernel
theorem dX16_holder_260 : decode cX16_holder 260 = .ok (.aload_n 0, 1) := by decide +kernel
theorem dX16_holder_261 : decode cX16_holder 261 = .ok (.getfield 306, 3) := by decide +kernel
theorem dX16_holder_264 : decode cX16_holder 264 = .ok (.iconst 3, 1) := by decide +kernel
theorem dX16_holder_265 : decode cX16_holder 265 = .ok (.iload_n 1, 1) := by decide +kernel
theorem dX16_holder_266 : decode cX16_holder 266 = .ok (.imul, 1) := by decide +kernel
theorem dX16_holder_267 : decode cX16_holder 267 = .ok (.iload 6, 2) := by decide +kernel
theorem dX16_holder_269 : decode cX16_holder 269 = .ok (.iadd, 1) := by decide +kernel
theorem dX16_holder_270 : decode cX16_holder 270 = .ok (.aload_n 0, 1) := by decide +kernel
theorem dX16_holder_271 : decode cX16_holder 271 = .ok (.getfield 306, 3) := by decide +kernel
theorem dX16_holder_274 : decode cX16_holder 274 = .ok (.iconst 3, 1) := by decide +kernel
theorem dX16_holder_275 : decode cX16_holder 275 = .ok (.iload_n 1, 1) := by decide +kernel
theorem dX16_holder_276 : decode cX16_holder 276 = .ok (.imul, 1) := by decide +kernel
theorem dX16_holder_277 : decode cX16_holder 277 = .ok (.iload 6, 2) := by decide +kernel
theorem dX16_holder_279 : decode cX16_holder 279 = .ok (.iadd, 1) := by decide +kernel
theorem dX16_holder_280 : decode cX16_holder 280 = .ok (.iconst 1, 1) := by decide +kernel
theorem dX16_holder_281 : decode cX16_holder 281 = .ok (.isub, 1) := by decide +kernel
theorem dX16_holder_282 : decode cX16_holder 282 = .ok (.iaload, 1) := by decide +kernel
theorem dX16_holder_283 : decode cX16_holder 283 = .ok (.iastore, 1) := by decide +kernel
theorem dX16_holder_284 : decode cX16_holder 284 = .ok (.iinc 6 (-1), 3) := by decide +kernel
theorem dX16_holder_287 : decode cX16_holder 287 = .ok (.goto (-73), 3) := by decide +kernel
theorem dX16_holder_290 : decode cX16_holder 290 = .ok (.aload_n 0, 1) := by decide +kernel
theorem dX16_holder_291 : decode cX16_holder 291 = .ok (.getfield 306, 3) := by decide +kernel
theorem dX16_holder_294 : decode cX16_holder 294 = .ok (.iconst 3, 1) := by decide +kernel
theorem dX16_holder_295 : decode cX16_holder 295 = .ok (.iload_n 1, 1) := by decide +kernel
theorem dX16_holder_296 : decode cX16_holder 296 = .ok (.imul, 1) := by decide +kernel
theorem dX16_holder_297 : decode cX16_holder 297 = .ok (.iload 6, 2) := by decide +kernel
theorem dX16_holder_299 : decode cX16_holder 299 = .ok (.iadd, 1) := by decide +kernel
theorem dX16_holder_300 : decode cX16_holder 300 = .ok (.iconst 3, 1) := by decide +kernel
theorem dX16_holder_301 : decode cX16_holder 301 = .ok (.iload_n 1, 1) := by decide +kernel
theorem dX16_holder_302 : decode cX16_holder 302 = .ok (.imul, 1) := by decide +kernel
theorem dX16_holder_303 : decode cX16_holder 303 = .ok (.iload 5, 2) := by decide +kernel
theorem dX16_holder_305 : decode cX16_holder 305 = .ok (.iadd, 1) := by decide +kernel
theorem dX16_holder_306 : decode cX16_holder 306 = .ok (.iastore, 1) := by decide +kernel
theorem dX16_holder_307 : decode cX16_holder 307 = .ok (.iinc 5 1, 3) := by decide +kernel
theorem dX16_holder_310 : decode cX16_holder 310 = .ok (.goto (-111), 3) := by decide +kernel
theorem dX16_holder_313 : decode cX16_holder 313 = .ok (.aload_n 0, 1) := by decide +kernel
theorem dX16_holder_314 : decode cX16_holder 314 = .ok (.getfield 321, 3) := by decide +kernel
theorem dX16_holder_317 : decode cX16_holder 317 = .ok (.iload_n 1, 1) := by decide +kernel
theorem dX16_holder_318 : decode cX16_holder 318 = .ok (.iconst 0, 1) := by decide +kernel
theorem dX16_holder_319 : decode cX16_holder 319 = .ok (.iastore, 1) := by decide +kernel
theorem dX16_holder_320 : decode cX16_holder 320 = .ok (.aload_n 0, 1) := by decide +kernel
theorem dX16_holder_321 : decode cX16_holder 321 = .ok (.getfield 309, 3) := by decide +kernel
theorem dX16_holder_324 : decode cX16_holder 324 = .ok (.iload_n 1, 1) := by decide +kernel
theorem dX16_holder_325 : decode cX16_holder 325 = .ok (.iconst 0, 1) := by decide +kernel
theorem dX16_holder_326 : decode cX16_holder 326 = .ok (.iastore, 1) := by decide +kernel
theorem dX16_holder_327 : decode cX16_holder 327 = .ok (.aload_n 0, 1) := by decide +kernel
theorem dX16_holder_328 : decode cX16_holder 328 = .ok (.getfield 240, 3) := by decide +kernel
theorem dX16_holder_331 : decode cX16_holder 331 = .ok (.iload_n 1, 1) := by decide +kernel
theorem dX16_holder_332 : decode cX16_holder 332 = .ok (.dup2, 1) := by decide +kernel
theorem dX16_holder_333 : decode cX16_holder 333 = .ok (.iaload, 1) := by decide +kernel
theorem dX16_holder_334 : decode cX16_holder 334 = .ok (.iconst 1, 1) := by decide +kernel
theorem dX16_holder_335 : decode cX16_holder 335 = .ok (.iadd, 1) := by decide +kernel
theorem dX16_holder_336 : decode cX16_holder 336 = .ok (.iastore, 1) := by decide +kernel
theorem dX16_holder_337 : decode cX16_holder 337 = .ok (.aload_n 0, 1) := by decide +kernel
theorem dX16_holder_338 : decode cX16_holder 338 = .ok (.getfield 312, 3) := by decide +kernel
theorem dX16_holder_341 : decode cX16_holder 341 = .ok (.iload_n 1, 1) := by decide +kernel
theorem dX16_holder_342 : decode cX16_holder 342 = .ok (.iconst 0, 1) := by decide +kernel
theorem dX16_holder_343 : decode cX16_holder 343 = .ok (.iastore, 1) := by decide +kernel
theorem dX16_holder_344 : decode cX16_holder 344 = .ok (.aload_n 0, 1) := by decide +kernel
theorem dX16_holder_345 : decode cX16_holder 345 = .ok (.getfield 237, 3) := by decide +kernel
theorem dX16_holder_348 : decode cX16_holder 348 = .ok (.iload_n 1, 1) := by decide +kernel
theorem dX16_holder_349 : decode cX16_holder 349 = .ok (.aload_n 0, 1) := by decide +kernel
theorem dX16_holder_350 : decode cX16_holder 350 = .ok (.getfield 288, 3) := by decide +kernel
theorem dX16_holder_353 : decode cX16_holder 353 = .ok (.iload_n 1, 1) := by decide +kernel
theorem dX16_holder_354 : decode cX16_holder 354 = .ok (.iaload, 1) := by decide +kernel
theorem dX16_holder_355 : decode cX16_holder 355 = .ok (.iconst 1, 1) := by decide +kernel
theorem dX16_holder_356 : decode cX16_holder 356 = .ok (.if_icmp .ne 7, 3) := by decide +kernel
theorem dX16_holder_359 : decode cX16_holder 359 = .ok (.iconst 4, 1) := by decide +kernel
theorem dX16_holder_360 : decode cX16_holder 360 = .ok (.goto 4, 3) := by decide +kernel
theorem dX16_holder_363 : decode cX16_holder 363 = .ok (.iconst 3, 1) := by decide +kernel
theorem dX16_holder_364 : decode cX16_holder 364 = .ok (.iastore, 1) := by decide +kernel
theorem dX16_holder_365 : decode cX16_holder 365 = .ok (.return_, 1) := by decide +kernel
def j_X16_holder_364 (y1 y2 : Int) (V : VV) : Option (VV) :=
  (s2 230 44 y1 y2 V).bind fun V1 =>
  some V1
def j_X16_holder_313 (x1 : Int) (V : VV) : Option (VV) :=
  (s2 258 44 x1 0 V).bind fun V1 =>
  (s2 254 44 x1 0 V1).bind fun V2 =>
  (l2 231 44 x1 V2).bind fun v1 =>
  (s2 231 44 x1 (v1 + 1) V2).bind fun V3 =>
  (s2 255 44 x1 0 V3).bind fun V4 =>
  (l2 247 44 x1 V4).bind fun v2 =>
  if w32 v2 = w32 1 then
    j_X16_holder_364 x1 4 V4
  else
    j_X16_holder_364 x1 3 V4
def j_X16_holder_290 (x1 x5 x6 : Int) (V : VV) : Option ((Int × VV) ⊕ (VV)) :=
  (s2 253 132 ((3 * x1) + x6) ((3 * x1) + x5) V).bind fun V1 =>
  cnt (x5 + 1, V1)
def j_X16_holder_254 (x1 x5 x6 y0 y3 y4 : Int) (V : VV) : Option ((Int × VV) ⊕ ((Int × VV) ⊕ (VV))) :=
  (l2 253 132 (y3 + y4) V).bind fun v1 =>
  (l2 252 132 v1 V).bind fun v2 =>
  if w32 y0 < w32 v2 then
    (l2 253 132 (((3 * x1) + x6) - 1) V).bind fun v3 =>
    (s2 253 132 ((3 * x1) + x6) v3 V).bind fun V1 =>
    cnt (x6 + (-1), V1)
  else
    xit (j_X16_holder_290 x1 x5 x6 V)
def b_X16_holder_214 (x1 x5 x6 : Int) (V : VV) : Option ((Int × VV) ⊕ ((Int × VV) ⊕ (VV))) :=
  if 0 < w32 x6 then
    (l2 252 132 ((3 * x1) + x5) V).bind fun v1 =>
    if 0 < w32 x6 then
      j_X16_holder_254 x1 x5 x6 v1 (3 * x1) (x6 - 1) V
    else
      j_X16_holder_254 x1 x5 x6 v1 (3 * x1) 0 V
  else
    xit (j_X16_holder_290 x1 x5 x6 V)
def l_X16_holder_214 (x1 x5 x6 : Int) (V : VV) : Option ((Int × VV) ⊕ (VV)) := lpN (fun s : Int × VV => b_X16_holder_214 x1 x5 s.1 s.2) FU (x6, V)
def b_X16_holder_199 (x1 x5 : Int) (V : VV) : Option ((Int × VV) ⊕ (VV)) :=
  (l2 247 44 x1 V).bind fun v1 =>
  if w32 x5 < w32 v1 then
    l_X16_holder_214 x1 x5 x5 V
  else
    xit (j_X16_holder_313 x1 V)
def l_X16_holder_199 (x1 x5 : Int) (V : VV) : Option (VV) := lpN (fun s : Int × VV => b_X16_holder_199 x1 s.1 s.2) FU (x5, V)
def j_X16_holder_143 (x1 x3 x4 : Int) (V : VV) : Option (VV) :=
  if w32 x4 = 0 then
    (f_X16_close x1 1 V).bind fun V3 =>
    some V3
  else
    (l2 248 44 x1 V).bind fun v1 =>
    (s2 248 44 x1 (v1 + 1) V).bind fun V1 =>
    (l2 248 44 x1 V1).bind fun v2 =>
    (l2 247 44 x1 V1).bind fun v3 =>
    if w32 v2 < w32 v3 then
      (f_X16_beginLookup x1 249 (5 * (x3 + 1)) 1 V1).bind fun V2 =>
      some V2
    else
      l_X16_holder_199 x1 0 V1
def j_X16_holder_137 (x1 x2 x3 x4 x5 : Int) (V : VV) : Option ((Int × Int × VV) ⊕ (VV)) :=
  cnt (x4, x5 + 1, V)
def j_X16_holder_90 (x1 x2 x3 x4 x5 x6 x7 : Int) (V : VV) : Option ((Int × Int × VV) ⊕ (VV)) :=
  if 0 < w32 x7 then
    (l2 236 2860 x6 V).bind fun v1 =>
    (s2 250 132 x3 v1 V).bind fun V1 =>
    (f_X16_put 251 (5 * x3) 235 (5 * x6) V1).bind fun V2 =>
    (s2 252 132 x3 x7 V2).bind fun V3 =>
    j_X16_holder_137 x1 x2 x3 1 x5 V3
  else
    j_X16_holder_137 x1 x2 x3 x4 x5 V
def b_X16_holder_24 (x1 x2 x3 x4 x5 : Int) (V : VV) : Option ((Int × Int × VV) ⊕ (VV)) :=
  if w32 x5 < w32 (w32 (V 156 106)) then
    if w32 x4 = 0 then
      (l2 240 21 x5 V).bind fun v1 =>
      (l2 238 2860 v1 V).bind fun v2 =>
      (f_X16_isOwn x1 235 (5 * v1) V).bind fun v3 =>
      if w32 v3 = 0 then
        j_X16_holder_90 x1 x2 x3 x4 x5 v1 v2 V
      else
        (f_X16_choose x2 249 (5 * x3) V).bind fun V1 =>
        j_X16_holder_90 x1 x2 x3 x4 x5 v1 (w32 (V1 156 72)) V1
    else
      xit (j_X16_holder_143 x1 x3 x4 V)
  else
    xit (j_X16_holder_143 x1 x3 x4 V)
def l_X16_holder_24 (x1 x2 x3 x4 x5 : Int) (V : VV) : Option (VV) := lpN (fun s : Int × Int × VV => b_X16_holder_24 x1 x2 x3 s.1 s.2.1 s.2.2) FU (x4, x5, V)
def f_X16_holder (x1 : Int) (V : VV) : Option (VV) :=
  (l2 228 44 x1 V).bind fun v1 =>
  (l2 248 44 x1 V).bind fun v2 =>
  l_X16_holder_24 x1 v1 ((3 * x1) + v2) 0 0 V
theorem s_X16_holder_364 {g : GG} {d : Nat} (hD : 5 ≤ d) {y1 y2 : Int} {M : MM} (hM : LM M) {V : VV} {o : AV × MM} {P : (VV) → Prop} (r0 : ∀ r : VV, P r → o = ((9, 0), (wr M r))) {z : VV} (h : j_X16_holder_364 y1 y2 V = some z) (hz : P z) : Sem g d YX16_holder 364 [(9, 0), (9, 0), (9, 0), (9, 0), (9, 0), (9, 0), (9, 0), (9, 0)] [(0, y2), (0, y1), (1, 230)] (wr M V) o := by
  delta j_X16_holder_364 at h
  refine P2_sai hM (a := 230) (n := 44) rfl dX16_holder_364 h (fun V1 h => ?_)
  obtain rfl := r0 _ (some_P (P := fun r => P r) h hz)
  exact S_return dX16_holder_365 rfl
theorem s_X16_holder_313 {g : GG} {d : Nat} (hD : 5 ≤ d) {x1 : Int} {M : MM} (hM : LM M) {V : VV} {o : AV × MM} {P : (VV) → Prop} (r0 : ∀ r : VV, P r → o = ((9, 0), (wr M r))) {z : VV} (h : j_X16_holder_313 x1 V = some z) (hz : P z) : Sem g d YX16_holder 313 [(1, 156), (0, x1), (9, 0), (9, 0), (9, 0), (9, 0), (9, 0), (9, 0)] [] (wr M V) o := by
  delta j_X16_holder_313 at h
  refine S_aload_n (i := 0) dX16_holder_313 rfl rfl ?_
  refine P2_gfr hM (a := 258) FLX16_321 rfl ⟨rfl, rfl⟩ dX16_holder_314 ?_
  refine S_iload_n (i := 1) dX16_holder_317 rfl rfl ?_
  refine S_iconst dX16_holder_318 rfl ?_
  refine P2_sai hM (a := 258) (n := 44) rfl dX16_holder_319 h (fun V1 h => ?_)
  refine S_aload_n (i := 0) dX16_holder_320 rfl rfl ?_
  refine P2_gfr hM (a := 254) FLX16_309 rfl ⟨rfl, rfl⟩ dX16_holder_321 ?_
  refine S_iload_n (i := 1) dX16_holder_324 rfl rfl ?_
  refine S_iconst dX16_holder_325 rfl ?_
  refine P2_sai hM (a := 254) (n := 44) rfl dX16_holder_326 h (fun V2 h => ?_)
  refine S_aload_n (i := 0) dX16_holder_327 rfl rfl ?_
  refine P2_gfr hM (a := 231) FLX16_240 rfl ⟨rfl, rfl⟩ dX16_holder_328 ?_
  refine S_iload_n (i := 1) dX16_holder_331 rfl rfl ?_
  refine S_dup2 dX16_holder_332 (Nat.le_of_ble_eq_true rfl) (Nat.le_of_ble_eq_true rfl) ?_
  refine P2_lai hM (a := 231) (n := 44) rfl dX16_holder_333 h (fun v1 h => ?_)
  refine S_iconst dX16_holder_334 rfl ?_
  refine S_iadd dX16_holder_335 ?_
  refine P2_sai hM (a := 231) (n := 44) rfl dX16_holder_336 h (fun V3 h => ?_)
  refine S_aload_n (i := 0) dX16_holder_337 rfl rfl ?_
  refine P2_gfr hM (a := 255) FLX16_312 rfl ⟨rfl, rfl⟩ dX16_holder_338 ?_
  refine S_iload_n (i := 1) dX16_holder_341 rfl rfl ?_
  refine S_iconst dX16_holder_342 rfl ?_
  refine P2_sai hM (a := 255) (n := 44) rfl dX16_holder_343 h (fun V4 h => ?_)
  refine S_aload_n (i := 0) dX16_holder_344 rfl rfl ?_
  refine P2_gfr hM (a := 230) FLX16_237 rfl ⟨rfl, rfl⟩ dX16_holder_345 ?_
  refine S_iload_n (i := 1) dX16_holder_348 rfl rfl ?_
  refine S_aload_n (i := 0) dX16_holder_349 rfl rfl ?_
  refine P2_gfr hM (a := 247) FLX16_288 rfl ⟨rfl, rfl⟩ dX16_holder_350 ?_
  refine S_iload_n (i := 1) dX16_holder_353 rfl rfl ?_
  refine P2_lai hM (a := 247) (n := 44) rfl dX16_holder_354 h (fun v2 h => ?_)
  refine S_iconst dX16_holder_355 rfl ?_
  refine P_icmp_ne (tgt := 363) dX16_holder_356 rfl h (fun h => ?_) (fun h => ?_)
  · refine S_iconst dX16_holder_363 rfl ?_
    refine S_weak (ls' := [(9, 0), (9, 0), (9, 0), (9, 0), (9, 0), (9, 0), (9, 0), (9, 0)]) ⟨Or.inl rfl, ⟨Or.inl rfl, ⟨Or.inl rfl, ⟨Or.inl rfl, ⟨Or.inl rfl, ⟨Or.inl rfl, ⟨Or.inl rfl, ⟨Or.inl rfl, trivial⟩⟩⟩⟩⟩⟩⟩⟩ ?_
    exact s_X16_holder_364 hD hM r0 h hz
  · refine S_iconst dX16_holder_359 rfl ?_
    refine S_goto (tgt := 364) dX16_holder_360 rfl ?_
    refine S_weak (ls' := [(9, 0), (9, 0), (9, 0), (9, 0), (9, 0), (9, 0), (9, 0), (9, 0)]) ⟨Or.inl rfl, ⟨Or.inl rfl, ⟨Or.inl rfl, ⟨Or.inl rfl, ⟨Or.inl rfl, ⟨Or.inl rfl, ⟨Or.inl rfl, ⟨Or.inl rfl, trivial⟩⟩⟩⟩⟩⟩⟩⟩ ?_
    exact s_X16_holder_364 hD hM r0 h hz
theorem s_X16_holder_290 {g : GG} {d : Nat} (hD : 5 ≤ d) {x1 x5 x6 : Int} {M : MM} (hM : LM M) {V : VV} {o : AV × MM} {P : ((Int × VV) ⊕ (VV)) → Prop} (c0 : ∀ s : Int × VV, P (.inl s) → Sem g d YX16_holder 199 [(1, 156), (0, x1), (9, 0), (9, 0), (9, 0), (0, s.1), (9, 0), (9, 0)] [] (wr M s.2) o) (r0 : ∀ r : VV, P (.inr r) → o = ((9, 0), (wr M r))) {z : (Int × VV) ⊕ (VV)} (h : j_X16_holder_290 x1 x5 x6 V = some z) (hz : P z) : Sem g d YX16_holder 290 [(1, 156), (0, x1), (9, 0), (9, 0), (9, 0), (0, x5), (0, x6), (9, 0)] [] (wr M V) o := by
  delta j_X16_holder_290 at h
  refine S_aload_n (i := 0) dX16_holder_290 rfl rfl ?_
  refine P2_gfr hM (a := 253) FLX16_306 rfl ⟨rfl, rfl⟩ dX16_holder_291 ?_
  refine S_iconst dX16_holder_294 rfl ?_
  refine S_iload_n (i := 1) dX16_holder_295 rfl rfl ?_
  refine S_imul dX16_holder_296 ?_
  refine S_iload dX16_holder_297 rfl ?_
  refine S_iadd dX16_holder_299 ?_
  refine S_iconst dX16_holder_300 rfl ?_
  refine S_iload_n (i := 1) dX16_holder_301 rfl rfl ?_
  refine S_imul dX16_holder_302 ?_
  refine S_iload dX16_holder_303 rfl ?_
  refine S_iadd dX16_holder_305 ?_
  refine P2_sai hM (a := 253) (n := 132) rfl dX16_holder_306 h (fun V1 h => ?_)
  refine S_iinc dX16_holder_307 rfl rfl rfl ?_
  change Sem g d YX16_holder 310 [(1, 156), (0, x1), (9, 0), (9, 0), (9, 0), (0, x5 + 1), (0, x6), (9, 0)] [] (wr M V1) o
  refine S_goto (tgt := 199) dX16_holder_310 rfl ?_
  refine S_weak (ls' := [(1, 156), (0, x1), (9, 0), (9, 0), (9, 0), (0, x5 + 1), (9, 0), (9, 0)]) ⟨Or.inr rfl, ⟨Or.inr rfl, ⟨Or.inl rfl, ⟨Or.inl rfl, ⟨Or.inl rfl, ⟨Or.inr rfl, ⟨Or.inl rfl, ⟨Or.inl rfl, trivial⟩⟩⟩⟩⟩⟩⟩⟩ ?_
  exact c0 (x5 + 1, V1) (some_P (P := fun r => P r) h hz)
theorem s_X16_holder_254 {g : GG} {d : Nat} (hD : 5 ≤ d) {x1 x5 x6 y0 y3 y4 : Int} {M : MM} (hM : LM M) {V : VV} {o : AV × MM} {P : ((Int × VV) ⊕ ((Int × VV) ⊕ (VV))) → Prop} (c1 : ∀ s : Int × VV, P (.inl s) → Sem g d YX16_holder 214 [(1, 156), (0, x1), (9, 0), (9, 0), (9, 0), (0, x5), (0, s.1), (9, 0)] [] (wr M s.2) o) (c0 : ∀ s : Int × VV, P (.inr (.inl s)) → Sem g d YX16_holder 199 [(1, 156), (0, x1), (9, 0), (9, 0), (9, 0), (0, s.1), (9, 0), (9, 0)] [] (wr M s.2) o) (r0 : ∀ r : VV, P (.inr (.inr r)) → o = ((9, 0), (wr M r))) {z : (Int × VV) ⊕ ((Int × VV) ⊕ (VV))} (h : j_X16_holder_254 x1 x5 x6 y0 y3 y4 V = some z) (hz : P z) : Sem g d YX16_holder 254 [(1, 156), (0, x1), (9, 0), (9, 0), (9, 0), (0, x5), (0, x6), (9, 0)] [(0, y4), (0, y3), (1, 253), (1, 252), (0, y0)] (wr M V) o := by
  delta j_X16_holder_254 at h
  refine S_iadd dX16_holder_254 ?_
  refine P2_lai hM (a := 253) (n := 132) rfl dX16_holder_255 h (fun v1 h => ?_)
  refine P2_lai hM (a := 252) (n := 132) rfl dX16_holder_256 h (fun v2 h => ?_)
  refine P_icmp_ge (tgt := 290) dX16_holder_257 rfl h (fun h => ?_) (fun h => ?_)
  · obtain ⟨z0, h, hz⟩ := xit_some' (P := fun r => P r) h hz
    exact s_X16_holder_290 hD hM (P := fun r => P (.inr r)) c0 r0 h hz
  · refine S_aload_n (i := 0) dX16_holder_260 rfl rfl ?_
    refine P2_gfr hM (a := 253) FLX16_306 rfl ⟨rfl, rfl⟩ dX16_holder_261 ?_
    refine S_iconst dX16_holder_264 rfl ?_
    refine S_iload_n (i := 1) dX16_holder_265 rfl rfl ?_
    refine S_imul dX16_holder_266 ?_
    refine S_iload dX16_holder_267 rfl ?_
    refine S_iadd dX16_holder_269 ?_
    refine S_aload_n (i := 0) dX16_holder_270 rfl rfl ?_
    refine P2_gfr hM (a := 253) FLX16_306 rfl ⟨rfl, rfl⟩ dX16_holder_271 ?_
    refine S_iconst dX16_holder_274 rfl ?_
    refine S_iload_n (i := 1) dX16_holder_275 rfl rfl ?_
    refine S_imul dX16_holder_276 ?_
    refine S_iload dX16_holder_277 rfl ?_
    refine S_iadd dX16_holder_279 ?_
    refine S_iconst dX16_holder_280 rfl ?_
    refine S_isub dX16_holder_281 ?_
    refine P2_lai hM (a := 253) (n := 132) rfl dX16_holder_282 h (fun v3 h => ?_)
    refine P2_sai hM (a := 253) (n := 132) rfl dX16_holder_283 h (fun V1 h => ?_)
    refine S_iinc dX16_holder_284 rfl rfl rfl ?_
    change Sem g d YX16_holder 287 [(1, 156), (0, x1), (9, 0), (9, 0), (9, 0), (0, x5), (0, x6 + (-1)), (9, 0)] [] (wr M V1) o
    refine S_goto (tgt := 214) dX16_holder_287 rfl ?_
    exact c1 (x6 + (-1), V1) (some_P (P := fun r => P r) h hz)
theorem s_X16_holder_214 {g : GG} {d : Nat} (hD : 5 ≤ d) {x1 x5 x6 : Int} {M : MM} (hM : LM M) {V : VV} {o : AV × MM} {P : ((Int × VV) ⊕ ((Int × VV) ⊕ (VV))) → Prop} (c1 : ∀ s : Int × VV, P (.inl s) → Sem g d YX16_holder 214 [(1, 156), (0, x1), (9, 0), (9, 0), (9, 0), (0, x5), (0, s.1), (9, 0)] [] (wr M s.2) o) (c0 : ∀ s : Int × VV, P (.inr (.inl s)) → Sem g d YX16_holder 199 [(1, 156), (0, x1), (9, 0), (9, 0), (9, 0), (0, s.1), (9, 0), (9, 0)] [] (wr M s.2) o) (r0 : ∀ r : VV, P (.inr (.inr r)) → o = ((9, 0), (wr M r))) {z : (Int × VV) ⊕ ((Int × VV) ⊕ (VV))} (h : b_X16_holder_214 x1 x5 x6 V = some z) (hz : P z) : Sem g d YX16_holder 214 [(1, 156), (0, x1), (9, 0), (9, 0), (9, 0), (0, x5), (0, x6), (9, 0)] [] (wr M V) o := by
  delta b_X16_holder_214 at h
  refine S_iload dX16_holder_214 rfl ?_
  refine P_if_le (tgt := 290) dX16_holder_216 rfl h (fun h => ?_) (fun h => ?_)
  · obtain ⟨z0, h, hz⟩ := xit_some' (P := fun r => P r) h hz
    exact s_X16_holder_290 hD hM (P := fun r => P (.inr r)) c0 r0 h hz
  · refine S_aload_n (i := 0) dX16_holder_219 rfl rfl ?_
    refine P2_gfr hM (a := 252) FLX16_303 rfl ⟨rfl, rfl⟩ dX16_holder_220 ?_
    refine S_iconst dX16_holder_223 rfl ?_
    refine S_iload_n (i := 1) dX16_holder_224 rfl rfl ?_
    refine S_imul dX16_holder_225 ?_
    refine S_iload dX16_holder_226 rfl ?_
    refine S_iadd dX16_holder_228 ?_
    refine P2_lai hM (a := 252) (n := 132) rfl dX16_holder_229 h (fun v1 h => ?_)
    refine S_aload_n (i := 0) dX16_holder_230 rfl rfl ?_
    refine P2_gfr hM (a := 252) FLX16_303 rfl ⟨rfl, rfl⟩ dX16_holder_231 ?_
    refine S_aload_n (i := 0) dX16_holder_234 rfl rfl ?_
    refine P2_gfr hM (a := 253) FLX16_306 rfl ⟨rfl, rfl⟩ dX16_holder_235 ?_
    refine S_iconst dX16_holder_238 rfl ?_
    refine S_iload_n (i := 1) dX16_holder_239 rfl rfl ?_
    refine S_imul dX16_holder_240 ?_
    refine S_iload dX16_holder_241 rfl ?_
    refine P_if_le (tgt := 253) dX16_holder_243 rfl h (fun h => ?_) (fun h => ?_)
    · refine S_iconst dX16_holder_253 rfl ?_
      exact s_X16_holder_254 hD hM c1 c0 r0 h hz
    · refine S_iload dX16_holder_246 rfl ?_
      refine S_iconst dX16_holder_248 rfl ?_
      refine S_isub dX16_holder_249 ?_
      refine S_goto (tgt := 254) dX16_holder_250 rfl ?_
      exact s_X16_holder_254 hD hM c1 c0 r0 h hz
theorem sl_X16_holder_214 {g : GG} {d : Nat} (hD : 5 ≤ d) {x1 x5 x6 : Int} {M : MM} (hM : LM M) {V : VV} {o : AV × MM} {P : ((Int × VV) ⊕ (VV)) → Prop} (c0 : ∀ s : Int × VV, P (.inl s) → Sem g d YX16_holder 199 [(1, 156), (0, x1), (9, 0), (9, 0), (9, 0), (0, s.1), (9, 0), (9, 0)] [] (wr M s.2) o) (r0 : ∀ r : VV, P (.inr r) → o = ((9, 0), (wr M r))) {z : (Int × VV) ⊕ (VV)} (h : l_X16_holder_214 x1 x5 x6 V = some z) (hz : P z) : Sem g d YX16_holder 214 [(1, 156), (0, x1), (9, 0), (9, 0), (9, 0), (0, x5), (0, x6), (9, 0)] [] (wr M V) o := by
  refine lp_sound (S := fun s : Int × VV => Sem g d YX16_holder 214 [(1, 156), (0, x1), (9, 0), (9, 0), (9, 0), (0, x5), (0, s.1), (9, 0)] [] (wr M s.2) o) (P := P) ?_ FU (x6, V) z h hz
  intro s x hx hP
  exact s_X16_holder_214 hD hM (P := Sum.elim (fun s : Int × VV => Sem g d YX16_holder 214 [(1, 156), (0, x1), (9, 0), (9, 0), (9, 0), (0, x5), (0, s.1), (9, 0)] [] (wr M s.2) o) P) (fun s h => h) (fun s h => c0 s h) (fun s h => r0 s h) hx hP
theorem s_X16_holder_199 {g : GG} {d : Nat} (hD : 5 ≤ d) {x1 x5 : Int} {M : MM} (hM : LM M) {V : VV} {o : AV × MM} {P : ((Int × VV) ⊕ (VV)) → Prop} (c0 : ∀ s : Int × VV, P (.inl s) → Sem g d YX16_holder 199 [(1, 156), (0, x1), (9, 0), (9, 0), (9, 0), (0, s.1), (9, 0), (9, 0)] [] (wr M s.2) o) (r0 : ∀ r : VV, P (.inr r) → o = ((9, 0), (wr M r))) {z : (Int × VV) ⊕ (VV)} (h : b_X16_holder_199 x1 x5 V = some z) (hz : P z) : Sem g d YX16_holder 199 [(1, 156), (0, x1), (9, 0), (9, 0), (9, 0), (0, x5), (9, 0), (9, 0)] [] (wr M V) o := by
  delta b_X16_holder_199 at h
  refine S_iload dX16_holder_199 rfl ?_
  refine S_aload_n (i := 0) dX16_holder_201 rfl rfl ?_
  refine P2_gfr hM (a := 247) FLX16_288 rfl ⟨rfl, rfl⟩ dX16_holder_202 ?_
  refine S_iload_n (i := 1) dX16_holder_205 rfl rfl ?_
  refine P2_lai hM (a := 247) (n := 44) rfl dX16_holder_206 h (fun v1 h => ?_)
  refine P_icmp_ge (tgt := 313) dX16_holder_207 rfl h (fun h => ?_) (fun h => ?_)
  · refine S_weak (ls' := [(1, 156), (0, x1), (9, 0), (9, 0), (9, 0), (9, 0), (9, 0), (9, 0)]) ⟨Or.inr rfl, ⟨Or.inr rfl, ⟨Or.inl rfl, ⟨Or.inl rfl, ⟨Or.inl rfl, ⟨Or.inl rfl, ⟨Or.inl rfl, ⟨Or.inl rfl, trivial⟩⟩⟩⟩⟩⟩⟩⟩ ?_
    obtain ⟨z0, h, hz⟩ := xit_some' (P := fun r => P r) h hz
    exact s_X16_holder_313 hD hM (P := fun r => P (.inr r)) r0 h hz
  · refine S_iload dX16_holder_210 rfl ?_
    refine S_istore dX16_holder_212 (Nat.le_of_ble_eq_true rfl) rfl rfl ?_
    change Sem g d YX16_holder 214 [(1, 156), (0, x1), (9, 0), (9, 0), (9, 0), (0, x5), (0, x5), (9, 0)] [] (wr M V) o
    exact sl_X16_holder_214 hD hM c0 r0 h hz
theorem sl_X16_holder_199 {g : GG} {d : Nat} (hD : 5 ≤ d) {x1 x5 : Int} {M : MM} (hM : LM M) {V : VV} {o : AV × MM} {P : (VV) → Prop} (r0 : ∀ r : VV, P r → o = ((9, 0), (wr M r))) {z : VV} (h : l_X16_holder_199 x1 x5 V = some z) (hz : P z) : Sem g d YX16_holder 199 [(1, 156), (0, x1), (9, 0), (9, 0), (9, 0), (0, x5), (9, 0), (9, 0)] [] (wr M V) o := by
  refine lp_sound (S := fun s : Int × VV => Sem g d YX16_holder 199 [(1, 156), (0, x1), (9, 0), (9, 0), (9, 0), (0, s.1), (9, 0), (9, 0)] [] (wr M s.2) o) (P := P) ?_ FU (x5, V) z h hz
  intro s x hx hP
  exact s_X16_holder_199 hD hM (P := Sum.elim (fun s : Int × VV => Sem g d YX16_holder 199 [(1, 156), (0, x1), (9, 0), (9, 0), (9, 0), (0, s.1), (9, 0), (9, 0)] [] (wr M s.2) o) P) (fun s h => h) (fun s h => r0 s h) hx hP
theorem s_X16_holder_143 {g : GG} {d : Nat} (hD : 5 ≤ d) {x1 x3 x4 : Int} {M : MM} (hM : LM M) {V : VV} {o : AV × MM} {P : (VV) → Prop} (r0 : ∀ r : VV, P r → o = ((9, 0), (wr M r))) {z : VV} (h : j_X16_holder_143 x1 x3 x4 V = some z) (hz : P z) : Sem g d YX16_holder 143 [(1, 156), (0, x1), (9, 0), (0, x3), (0, x4), (9, 0), (9, 0), (9, 0)] [] (wr M V) o := by
  delta j_X16_holder_143 at h
  refine S_iload dX16_holder_143 rfl ?_
  refine P_if_ne (tgt := 155) dX16_holder_145 rfl h (fun h => ?_) (fun h => ?_)
  · refine S_aload_n (i := 0) dX16_holder_155 rfl rfl ?_
    refine P2_gfr hM (a := 248) FLX16_291 rfl ⟨rfl, rfl⟩ dX16_holder_156 ?_
    refine S_iload_n (i := 1) dX16_holder_159 rfl rfl ?_
    refine S_dup2 dX16_holder_160 (Nat.le_of_ble_eq_true rfl) (Nat.le_of_ble_eq_true rfl) ?_
    refine P2_lai hM (a := 248) (n := 44) rfl dX16_holder_161 h (fun v1 h => ?_)
    refine S_iconst dX16_holder_162 rfl ?_
    refine S_iadd dX16_holder_163 ?_
    refine P2_sai hM (a := 248) (n := 44) rfl dX16_holder_164 h (fun V1 h => ?_)
    refine S_aload_n (i := 0) dX16_holder_165 rfl rfl ?_
    refine P2_gfr hM (a := 248) FLX16_291 rfl ⟨rfl, rfl⟩ dX16_holder_166 ?_
    refine S_iload_n (i := 1) dX16_holder_169 rfl rfl ?_
    refine P2_lai hM (a := 248) (n := 44) rfl dX16_holder_170 h (fun v2 h => ?_)
    refine S_aload_n (i := 0) dX16_holder_171 rfl rfl ?_
    refine P2_gfr hM (a := 247) FLX16_288 rfl ⟨rfl, rfl⟩ dX16_holder_172 ?_
    refine S_iload_n (i := 1) dX16_holder_175 rfl rfl ?_
    refine P2_lai hM (a := 247) (n := 44) rfl dX16_holder_176 h (fun v3 h => ?_)
    refine P_icmp_ge (tgt := 196) dX16_holder_177 rfl h (fun h => ?_) (fun h => ?_)
    · refine S_iconst dX16_holder_196 rfl ?_
      refine S_istore dX16_holder_197 (Nat.le_of_ble_eq_true rfl) rfl rfl ?_
      change Sem g d YX16_holder 199 [(1, 156), (0, x1), (9, 0), (0, x3), (0, x4), (0, 0), (9, 0), (9, 0)] [] (wr M V1) o
      refine S_weak (ls' := [(1, 156), (0, x1), (9, 0), (9, 0), (9, 0), (0, 0), (9, 0), (9, 0)]) ⟨Or.inr rfl, ⟨Or.inr rfl, ⟨Or.inl rfl, ⟨Or.inl rfl, ⟨Or.inl rfl, ⟨Or.inr rfl, ⟨Or.inl rfl, ⟨Or.inl rfl, trivial⟩⟩⟩⟩⟩⟩⟩⟩ ?_
      exact sl_X16_holder_199 hD hM r0 h hz
    · refine S_aload_n (i := 0) dX16_holder_180 rfl rfl ?_
      refine S_iload_n (i := 1) dX16_holder_181 rfl rfl ?_
      refine S_aload_n (i := 0) dX16_holder_182 rfl rfl ?_
      refine P2_gfr hM (a := 249) FLX16_294 rfl ⟨rfl, rfl⟩ dX16_holder_183 ?_
      refine S_iconst dX16_holder_186 rfl ?_
      refine S_iload_n (i := 3) dX16_holder_187 rfl rfl ?_
      refine S_iconst dX16_holder_188 rfl ?_
      refine S_iadd dX16_holder_189 ?_
      refine S_imul dX16_holder_190 ?_
      refine S_iconst dX16_holder_191 rfl ?_
      refine P2_invVm hM [(0, x1), (1, 249), (0, 5 * (x3 + 1)), (0, 1)] [] CVX16_beginLookup MLX16_668 dX16_holder_192 rfl rfl rfl rfl (by omega) h (fun r h => F_X16_beginLookup (by omega) hM h) (fun V2 h => ?_)
      obtain rfl := r0 _ (some_P (P := fun r => P r) h hz)
      exact S_return dX16_holder_195 rfl
  · refine S_aload_n (i := 0) dX16_holder_148 rfl rfl ?_
    refine S_iload_n (i := 1) dX16_holder_149 rfl rfl ?_
    refine S_iconst dX16_holder_150 rfl ?_
    refine P2_invVm hM [(0, x1), (0, 1)] [] CVX16_close MLX16_659 dX16_holder_151 rfl rfl rfl rfl (by omega) h (fun r h => F_X16_close (by omega) hM h) (fun V3 h => ?_)
    obtain rfl := r0 _ (some_P (P := fun r => P r) h hz)
    exact S_return dX16_holder_154 rfl
theorem s_X16_holder_137 {g : GG} {d : Nat} (hD : 5 ≤ d) {x1 x2 x3 x4 x5 : Int} {M : MM} (hM : LM M) {V : VV} {o : AV × MM} {P : ((Int × Int × VV) ⊕ (VV)) → Prop} (c0 : ∀ s : Int × Int × VV, P (.inl s) → Sem g d YX16_holder 24 [(1, 156), (0, x1), (0, x2), (0, x3), (0, s.1), (0, s.2.1), (9, 0), (9, 0)] [] (wr M s.2.2) o) (r0 : ∀ r : VV, P (.inr r) → o = ((9, 0), (wr M r))) {z : (Int × Int × VV) ⊕ (VV)} (h : j_X16_holder_137 x1 x2 x3 x4 x5 V = some z) (hz : P z) : Sem g d YX16_holder 137 [(1, 156), (0, x1), (0, x2), (0, x3), (0, x4), (0, x5), (9, 0), (9, 0)] [] (wr M V) o := by
  delta j_X16_holder_137 at h
  refine S_iinc dX16_holder_137 rfl rfl rfl ?_
  change Sem g d YX16_holder 140 [(1, 156), (0, x1), (0, x2), (0, x3), (0, x4), (0, x5 + 1), (9, 0), (9, 0)] [] (wr M V) o
  refine S_goto (tgt := 24) dX16_holder_140 rfl ?_
  exact c0 (x4, x5 + 1, V) (some_P (P := fun r => P r) h hz)
theorem s_X16_holder_90 {g : GG} {d : Nat} (hD : 5 ≤ d) {x1 x2 x3 x4 x5 x6 x7 : Int} {M : MM} (hM : LM M) {V : VV} {o : AV × MM} {P : ((Int × Int × VV) ⊕ (VV)) → Prop} (c0 : ∀ s : Int × Int × VV, P (.inl s) → Sem g d YX16_holder 24 [(1, 156), (0, x1), (0, x2), (0, x3), (0, s.1), (0, s.2.1), (9, 0), (9, 0)] [] (wr M s.2.2) o) (r0 : ∀ r : VV, P (.inr r) → o = ((9, 0), (wr M r))) {z : (Int × Int × VV) ⊕ (VV)} (h : j_X16_holder_90 x1 x2 x3 x4 x5 x6 x7 V = some z) (hz : P z) : Sem g d YX16_holder 90 [(1, 156), (0, x1), (0, x2), (0, x3), (0, x4), (0, x5), (0, x6), (0, x7)] [] (wr M V) o := by
  delta j_X16_holder_90 at h
  refine S_iload dX16_holder_90 rfl ?_
  refine P_if_le (tgt := 137) dX16_holder_92 rfl h (fun h => ?_) (fun h => ?_)
  · refine S_weak (ls' := [(1, 156), (0, x1), (0, x2), (0, x3), (0, x4), (0, x5), (9, 0), (9, 0)]) ⟨Or.inr rfl, ⟨Or.inr rfl, ⟨Or.inr rfl, ⟨Or.inr rfl, ⟨Or.inr rfl, ⟨Or.inr rfl, ⟨Or.inl rfl, ⟨Or.inl rfl, trivial⟩⟩⟩⟩⟩⟩⟩⟩ ?_
    exact s_X16_holder_137 hD hM c0 r0 h hz
  · refine S_iconst dX16_holder_95 rfl ?_
    refine S_istore dX16_holder_96 (Nat.le_of_ble_eq_true rfl) rfl rfl ?_
    change Sem g d YX16_holder 98 [(1, 156), (0, x1), (0, x2), (0, x3), (0, 1), (0, x5), (0, x6), (0, x7)] [] (wr M V) o
    refine S_aload_n (i := 0) dX16_holder_98 rfl rfl ?_
    refine P2_gfr hM (a := 250) FLX16_297 rfl ⟨rfl, rfl⟩ dX16_holder_99 ?_
    refine S_iload_n (i := 3) dX16_holder_102 rfl rfl ?_
    refine S_aload_n (i := 0) dX16_holder_103 rfl rfl ?_
    refine P2_gfr hM (a := 236) FLX16_255 rfl ⟨rfl, rfl⟩ dX16_holder_104 ?_
    refine S_iload dX16_holder_107 rfl ?_
    refine P2_lai hM (a := 236) (n := 2860) rfl dX16_holder_109 h (fun v1 h => ?_)
    refine P2_sai hM (a := 250) (n := 132) rfl dX16_holder_110 h (fun V1 h => ?_)
    refine S_aload_n (i := 0) dX16_holder_111 rfl rfl ?_
    refine P2_gfr hM (a := 251) FLX16_300 rfl ⟨rfl, rfl⟩ dX16_holder_112 ?_
    refine S_iconst dX16_holder_115 rfl ?_
    refine S_iload_n (i := 3) dX16_holder_116 rfl rfl ?_
    refine S_imul dX16_holder_117 ?_
    refine S_aload_n (i := 0) dX16_holder_118 rfl rfl ?_
    refine P2_gfr hM (a := 235) FLX16_252 rfl ⟨rfl, rfl⟩ dX16_holder_119 ?_
    refine S_iconst dX16_holder_122 rfl ?_
    refine S_iload dX16_holder_123 rfl ?_
    refine S_imul dX16_holder_125 ?_
    refine P2_invSm hM [(1, 251), (0, 5 * x3), (1, 235), (0, 5 * x6)] [] CSX16_put MLX16_438 dX16_holder_126 rfl rfl rfl rfl (by omega) h (fun r h => F_X16_put (by omega) hM h) (fun V2 h => ?_)
    refine S_aload_n (i := 0) dX16_holder_129 rfl rfl ?_
    refine P2_gfr hM (a := 252) FLX16_303 rfl ⟨rfl, rfl⟩ dX16_holder_130 ?_
    refine S_iload_n (i := 3) dX16_holder_133 rfl rfl ?_
    refine S_iload dX16_holder_134 rfl ?_
    refine P2_sai hM (a := 252) (n := 132) rfl dX16_holder_136 h (fun V3 h => ?_)
    refine S_weak (ls' := [(1, 156), (0, x1), (0, x2), (0, x3), (0, 1), (0, x5), (9, 0), (9, 0)]) ⟨Or.inr rfl, ⟨Or.inr rfl, ⟨Or.inr rfl, ⟨Or.inr rfl, ⟨Or.inr rfl, ⟨Or.inr rfl, ⟨Or.inl rfl, ⟨Or.inl rfl, trivial⟩⟩⟩⟩⟩⟩⟩⟩ ?_
    exact s_X16_holder_137 hD hM c0 r0 h hz
theorem s_X16_holder_24 {g : GG} {d : Nat} (hD : 5 ≤ d) {x1 x2 x3 x4 x5 : Int} {M : MM} (hM : LM M) {V : VV} {o : AV × MM} {P : ((Int × Int × VV) ⊕ (VV)) → Prop} (c0 : ∀ s : Int × Int × VV, P (.inl s) → Sem g d YX16_holder 24 [(1, 156), (0, x1), (0, x2), (0, x3), (0, s.1), (0, s.2.1), (9, 0), (9, 0)] [] (wr M s.2.2) o) (r0 : ∀ r : VV, P (.inr r) → o = ((9, 0), (wr M r))) {z : (Int × Int × VV) ⊕ (VV)} (h : b_X16_holder_24 x1 x2 x3 x4 x5 V = some z) (hz : P z) : Sem g d YX16_holder 24 [(1, 156), (0, x1), (0, x2), (0, x3), (0, x4), (0, x5), (9, 0), (9, 0)] [] (wr M V) o := by
  delta b_X16_holder_24 at h
  refine S_iload dX16_holder_24 rfl ?_
  refine S_aload_n (i := 0) dX16_holder_26 rfl rfl ?_
  refine P2_gfi hM FLX16_628 rfl dX16_holder_27 ?_
  refine P_icmp_ge (tgt := 143) dX16_holder_30 rfl h (fun h => ?_) (fun h => ?_)
  · refine S_weak (ls' := [(1, 156), (0, x1), (9, 0), (0, x3), (0, x4), (9, 0), (9, 0), (9, 0)]) ⟨Or.inr rfl, ⟨Or.inr rfl, ⟨Or.inl rfl, ⟨Or.inr rfl, ⟨Or.inr rfl, ⟨Or.inl rfl, ⟨Or.inl rfl, ⟨Or.inl rfl, trivial⟩⟩⟩⟩⟩⟩⟩⟩ ?_
    obtain ⟨z0, h, hz⟩ := xit_some' (P := fun r => P r) h hz
    exact s_X16_holder_143 hD hM (P := fun r => P (.inr r)) r0 h hz
  · refine S_iload dX16_holder_33 rfl ?_
    refine P_if_ne (tgt := 143) dX16_holder_35 rfl h (fun h => ?_) (fun h => ?_)
    · refine S_weak (ls' := [(1, 156), (0, x1), (9, 0), (0, x3), (0, x4), (9, 0), (9, 0), (9, 0)]) ⟨Or.inr rfl, ⟨Or.inr rfl, ⟨Or.inl rfl, ⟨Or.inr rfl, ⟨Or.inr rfl, ⟨Or.inl rfl, ⟨Or.inl rfl, ⟨Or.inl rfl, trivial⟩⟩⟩⟩⟩⟩⟩⟩ ?_
      obtain ⟨z0, h, hz⟩ := xit_some' (P := fun r => P r) h hz
      exact s_X16_holder_143 hD hM (P := fun r => P (.inr r)) r0 h hz
    · refine S_aload_n (i := 0) dX16_holder_38 rfl rfl ?_
      refine P2_gfr hM (a := 240) FLX16_267 rfl ⟨rfl, rfl⟩ dX16_holder_39 ?_
      refine S_iload dX16_holder_42 rfl ?_
      refine P2_lai hM (a := 240) (n := 21) rfl dX16_holder_44 h (fun v1 h => ?_)
      refine S_istore dX16_holder_45 (Nat.le_of_ble_eq_true rfl) rfl rfl ?_
      change Sem g d YX16_holder 47 [(1, 156), (0, x1), (0, x2), (0, x3), (0, x4), (0, x5), (0, v1), (9, 0)] [] (wr M V) o
      refine S_aload_n (i := 0) dX16_holder_47 rfl rfl ?_
      refine P2_gfr hM (a := 238) FLX16_261 rfl ⟨rfl, rfl⟩ dX16_holder_48 ?_
      refine S_iload dX16_holder_51 rfl ?_
      refine P2_lai hM (a := 238) (n := 2860) rfl dX16_holder_53 h (fun v2 h => ?_)
      refine S_istore dX16_holder_54 (Nat.le_of_ble_eq_true rfl) rfl rfl ?_
      change Sem g d YX16_holder 56 [(1, 156), (0, x1), (0, x2), (0, x3), (0, x4), (0, x5), (0, v1), (0, v2)] [] (wr M V) o
      refine S_aload_n (i := 0) dX16_holder_56 rfl rfl ?_
      refine S_iload_n (i := 1) dX16_holder_57 rfl rfl ?_
      refine S_aload_n (i := 0) dX16_holder_58 rfl rfl ?_
      refine P2_gfr hM (a := 235) FLX16_252 rfl ⟨rfl, rfl⟩ dX16_holder_59 ?_
      refine S_iconst dX16_holder_62 rfl ?_
      refine S_iload dX16_holder_63 rfl ?_
      refine S_imul dX16_holder_65 ?_
      refine P2_invVp hM 0 [(0, x1), (1, 235), (0, 5 * v1)] [] CVX16_isOwn MLX16_686 dX16_holder_66 rfl rfl rfl rfl rfl (by omega) h (fun r h => F_X16_isOwn (by omega) hM h) (fun v3 h => ?_)
      refine P_if_eq (tgt := 90) dX16_holder_69 rfl h (fun h => ?_) (fun h => ?_)
      · exact s_X16_holder_90 hD hM c0 r0 h hz
      · refine S_aload_n (i := 0) dX16_holder_72 rfl rfl ?_
        refine S_iload_n (i := 2) dX16_holder_73 rfl rfl ?_
        refine S_aload_n (i := 0) dX16_holder_74 rfl rfl ?_
        refine P2_gfr hM (a := 249) FLX16_294 rfl ⟨rfl, rfl⟩ dX16_holder_75 ?_
        refine S_iconst dX16_holder_78 rfl ?_
        refine S_iload_n (i := 3) dX16_holder_79 rfl rfl ?_
        refine S_imul dX16_holder_80 ?_
        refine P2_invVm hM [(0, x2), (1, 249), (0, 5 * x3)] [] CVX16_choose MLX16_598 dX16_holder_81 rfl rfl rfl rfl (by omega) h (fun r h => F_X16_choose (by omega) hM h) (fun V1 h => ?_)
        refine S_aload_n (i := 0) dX16_holder_84 rfl rfl ?_
        refine P2_gfi hM FLX16_559 rfl dX16_holder_85 ?_
        refine S_istore dX16_holder_88 (Nat.le_of_ble_eq_true rfl) rfl rfl ?_
        change Sem g d YX16_holder 90 [(1, 156), (0, x1), (0, x2), (0, x3), (0, x4), (0, x5), (0, v1), (0, w32 (V1 156 72))] [] (wr M V1) o
        exact s_X16_holder_90 hD hM c0 r0 h hz
theorem sl_X16_holder_24 {g : GG} {d : Nat} (hD : 5 ≤ d) {x1 x2 x3 x4 x5 : Int} {M : MM} (hM : LM M) {V : VV} {o : AV × MM} {P : (VV) → Prop} (r0 : ∀ r : VV, P r → o = ((9, 0), (wr M r))) {z : VV} (h : l_X16_holder_24 x1 x2 x3 x4 x5 V = some z) (hz : P z) : Sem g d YX16_holder 24 [(1, 156), (0, x1), (0, x2), (0, x3), (0, x4), (0, x5), (9, 0), (9, 0)] [] (wr M V) o := by
  refine lp_sound (S := fun s : Int × Int × VV => Sem g d YX16_holder 24 [(1, 156), (0, x1), (0, x2), (0, x3), (0, s.1), (0, s.2.1), (9, 0), (9, 0)] [] (wr M s.2.2) o) (P := P) ?_ FU (x4, x5, V) z h hz
  intro s x hx hP
  exact s_X16_holder_24 hD hM (P := Sum.elim (fun s : Int × Int × VV => Sem g d YX16_holder 24 [(1, 156), (0, x1), (0, x2), (0, x3), (0, s.1), (0, s.2.1), (9, 0), (9, 0)] [] (wr M s.2.2) o) P) (fun s h => h) (fun s h => r0 s h) hx hP
theorem s_X16_holder_0 {g : GG} {d : Nat} (hD : 5 ≤ d) {x1 : Int} {M : MM} (hM : LM M) {V : VV} {o : AV × MM} {P : (VV) → Prop} (r0 : ∀ r : VV, P r → o = ((9, 0), (wr M r))) {z : VV} (h : f_X16_holder x1 V = some z) (hz : P z) : Sem g d YX16_holder 0 [(1, 156), (0, x1), (9, 0), (9, 0), (9, 0), (9, 0), (9, 0), (9, 0)] [] (wr M V) o := by
  delta f_X16_holder at h
  refine S_aload_n (i := 0) dX16_holder_0 rfl rfl ?_
  refine P2_gfr hM (a := 228) FLX16_231 rfl ⟨rfl, rfl⟩ dX16_holder_1 ?_
  refine S_iload_n (i := 1) dX16_holder_4 rfl rfl ?_
  refine P2_lai hM (a := 228) (n := 44) rfl dX16_holder_5 h (fun v1 h => ?_)
  refine S_istore_n (i := 2) dX16_holder_6 rfl (Nat.le_of_ble_eq_true rfl) rfl rfl ?_
  change Sem g d YX16_holder 7 [(1, 156), (0, x1), (0, v1), (9, 0), (9, 0), (9, 0), (9, 0), (9, 0)] [] (wr M V) o
  refine S_iconst dX16_holder_7 rfl ?_
  refine S_iload_n (i := 1) dX16_holder_8 rfl rfl ?_
  refine S_imul dX16_holder_9 ?_
  refine S_aload_n (i := 0) dX16_holder_10 rfl rfl ?_
  refine P2_gfr hM (a := 248) FLX16_291 rfl ⟨rfl, rfl⟩ dX16_holder_11 ?_
  refine S_iload_n (i := 1) dX16_holder_14 rfl rfl ?_
  refine P2_lai hM (a := 248) (n := 44) rfl dX16_holder_15 h (fun v2 h => ?_)
  refine S_iadd dX16_holder_16 ?_
  refine S_istore_n (i := 3) dX16_holder_17 rfl (Nat.le_of_ble_eq_true rfl) rfl rfl ?_
  change Sem g d YX16_holder 18 [(1, 156), (0, x1), (0, v1), (0, (3 * x1) + v2), (9, 0), (9, 0), (9, 0), (9, 0)] [] (wr M V) o
  refine S_iconst dX16_holder_18 rfl ?_
  refine S_istore dX16_holder_19 (Nat.le_of_ble_eq_true rfl) rfl rfl ?_
  change Sem g d YX16_holder 21 [(1, 156), (0, x1), (0, v1), (0, (3 * x1) + v2), (0, 0), (9, 0), (9, 0), (9, 0)] [] (wr M V) o
  refine S_iconst dX16_holder_21 rfl ?_
  refine S_istore dX16_holder_22 (Nat.le_of_ble_eq_true rfl) rfl rfl ?_
  change Sem g d YX16_holder 24 [(1, 156), (0, x1), (0, v1), (0, (3 * x1) + v2), (0, 0), (0, 0), (9, 0), (9, 0)] [] (wr M V) o
  exact sl_X16_holder_24 hD hM r0 h hz
theorem F_X16_holder {g : GG} {d : Nat} (hD : 5 ≤ d) {x1 : Int} {M : MM} (hM : LM M) {V : VV} {r : VV} (h : f_X16_holder x1 V = some r) : Sem g d YX16_holder 0 (ini YX16_holder [(1, 156), (0, x1)]) [] (wr M V) ((9, 0), (wr M r)) := by
  change Sem g d YX16_holder 0 [(1, 156), (0, x1), (9, 0), (9, 0), (9, 0), (9, 0), (9, 0), (9, 0)] [] (wr M V) ((9, 0), (wr M r))
  exact s_X16_holder_0 hD hM (P := fun x => x = r) (fun q e => by rw [e]) h rfl
/-! PeerSearchModel.byteOut(I)V -/
theorem dX16_byteOut_0 : decode cX16_byteOut 0 = .ok (.aload_n 0, 1) := by decide +kernel
theorem dX16_byteOut_1 : decode cX16_byteOut 1 = .ok (.getfield 107, 3) := by decide +kernel
theorem dX16_byteOut_4 : decode cX16_byteOut 4 = .ok (.aload_n 0, 1) := by decide +kernel
theorem dX16_byteOut_5 : decode cX16_byteOut 5 = .ok (.getfield 470, 3) := by decide +kernel
theorem dX16_byteOut_8 : decode cX16_byteOut 8 = .ok (.iload_n 1, 1) := by decide +kernel
theorem dX16_byteOut_9 : decode cX16_byteOut 9 = .ok (.sipush 255, 3) := by decide +kernel
theorem dX16_byteOut_12 : decode cX16_byteOut 12 = .ok (.iand, 1) := by decide +kernel
theorem dX16_byteOut_13 : decode cX16_byteOut 13 = .ok (.iastore, 1) := by decide +kernel
theorem dX16_byteOut_14 : decode cX16_byteOut 14 = .ok (.aload_n 0, 1) := by decide +kernel
theorem dX16_byteOut_15 : decode cX16_byteOut 15 = .ok (.dup, 1) := by decide +kernel
theorem dX16_byteOut_16 : decode cX16_byteOut 16 = .ok (.getfield 470, 3) := by decide +kernel
theorem dX16_byteOut_19 : decode cX16_byteOut 19 = .ok (.iconst 1, 1) := by decide +kernel
theorem dX16_byteOut_20 : decode cX16_byteOut 20 = .ok (.iadd, 1) := by decide +kernel
theorem dX16_byteOut_21 : decode cX16_byteOut 21 = .ok (.putfield 470, 3) := by decide +kernel
theorem dX16_byteOut_24 : decode cX16_byteOut 24 = .ok (.return_, 1) := by decide +kernel
def f_X16_byteOut (x1 : Int) (V : VV) : Option (VV) :=
  (s2 188 460 (w32 (V 156 41)) (band x1 255) V).bind fun V1 =>
  (p2 41 ((w32 (V1 156 41)) + 1) V1).bind fun V2 =>
  some V2
theorem s_X16_byteOut_0 {g : GG} {d : Nat} (hD : 0 ≤ d) {x1 : Int} {M : MM} (hM : LM M) {V : VV} {o : AV × MM} {P : (VV) → Prop} (r0 : ∀ r : VV, P r → o = ((9, 0), (wr M r))) {z : VV} (h : f_X16_byteOut x1 V = some z) (hz : P z) : Sem g d YX16_byteOut 0 [(1, 156), (0, x1)] [] (wr M V) o := by
  delta f_X16_byteOut at h
  refine S_aload_n (i := 0) dX16_byteOut_0 rfl rfl ?_
  refine P2_gfr hM (a := 188) FLX16_107 rfl ⟨rfl, rfl⟩ dX16_byteOut_1 ?_
  refine S_aload_n (i := 0) dX16_byteOut_4 rfl rfl ?_
  refine P2_gfi hM FLX16_470 rfl dX16_byteOut_5 ?_
  refine S_iload_n (i := 1) dX16_byteOut_8 rfl rfl ?_
  refine S_sipush (z := 255) dX16_byteOut_9 rfl ?_
  refine S_iand dX16_byteOut_12 ?_
  refine P2_sai hM (a := 188) (n := 460) rfl dX16_byteOut_13 h (fun V1 h => ?_)
  refine S_aload_n (i := 0) dX16_byteOut_14 rfl rfl ?_
  refine S_dup dX16_byteOut_15 (Nat.le_of_ble_eq_true rfl) ?_
  refine P2_gfi hM FLX16_470 rfl dX16_byteOut_16 ?_
  refine S_iconst dX16_byteOut_19 rfl ?_
  refine S_iadd dX16_byteOut_20 ?_
  refine P2_pfi hM FLX16_470 FPX16_470 rfl dX16_byteOut_21 h (fun V2 h => ?_)
  obtain rfl := r0 _ (some_P (P := fun r => P r) h hz)
  exact S_return dX16_byteOut_24 rfl
theorem F_X16_byteOut {g : GG} {d : Nat} (hD : 0 ≤ d) {x1 : Int} {M : MM} (hM : LM M) {V : VV} {r : VV} (h : f_X16_byteOut x1 V = some r) : Sem g d YX16_byteOut 0 (ini YX16_byteOut [(1, 156), (0, x1)]) [] (wr M V) ((9, 0), (wr M r)) := by
  change Sem g d YX16_byteOut 0 [(1, 156), (0, x1)] [] (wr M V) ((9, 0), (wr M r))
  exact s_X16_byteOut_0 hD hM (P := fun x => x = r) (fun q e => by rw [e]) h rfl
/-! PeerSearchModel.draw()I -/
theorem dX16_draw_0 : decode cX16_draw 0 = .ok (.aload_n 0, 1) := by decide +kernel
theorem dX16_draw_1 : decode cX16_draw 1 = .ok (.getfield 25, 3) := by decide +kernel
theorem dX16_draw_4 : decode cX16_draw 4 = .ok (.bipush 10, 2) := by decide +kernel
theorem dX16_draw_6 : decode cX16_draw 6 = .ok (.aload_n 0, 1) := by decide +kernel
theorem dX16_draw_7 : decode cX16_draw 7 = .ok (.getfield 25, 3) := by decide +kernel
theorem dX16_draw_10 : decode cX16_draw 10 = .ok (.bipush 10, 2) := by decide +kernel
theorem dX16_draw_12 : decode cX16_draw 12 = .ok (.iaload, 1) := by decide +kernel
theorem dX16_draw_13 : decode cX16_draw 13 = .ok (.ldc_w 423, 3) := by decide +kernel
theorem dX16_draw_16 : decode cX16_draw 16 = .ok (.imul, 1) := by decide +kernel
theorem dX16_draw_17 : decode cX16_draw 17 = .ok (.sipush 12345, 3) := by decide +kernel
theorem dX16_draw_20 : decode cX16_draw 20 = .ok (.iadd, 1) := by decide +kernel
theorem dX16_draw_21 : decode cX16_draw 21 = .ok (.ldc 32, 2) := by decide +kernel
theorem dX16_draw_23 : decode cX16_draw 23 = .ok (.iand, 1) := by decide +kernel
theorem dX16_draw_24 : decode cX16_draw 24 = .ok (.iastore, 1) := by decide +kernel
theorem dX16_draw_25 : decode cX16_draw 25 = .ok (.aload_n 0, 1) := by decide +kernel
theorem dX16_draw_26 : decode cX16_draw 26 = .ok (.getfield 25, 3) := by decide +kernel
theorem dX16_draw_29 : decode cX16_draw 29 = .ok (.bipush 10, 2) := by decide +kernel
theorem dX16_draw_31 : decode cX16_draw 31 = .ok (.iaload, 1) := by decide +kernel
theorem dX16_draw_32 : decode cX16_draw 32 = .ok (.bipush 16, 2) := by decide +kernel
theorem dX16_draw_34 : decode cX16_draw 34 = .ok (.ishr, 1) := by decide +kernel
theorem dX16_draw_35 : decode cX16_draw 35 = .ok (.ireturn, 1) := by decide +kernel
def f_X16_draw (V : VV) : Option (Int × VV) :=
  (l2 162 11 10 V).bind fun v1 =>
  (s2 162 11 10 (band ((v1 * 1103515245) + 12345) 2147483647) V).bind fun V1 =>
  (l2 162 11 10 V1).bind fun v2 =>
  some (bshr v2 16, V1)
theorem s_X16_draw_0 {g : GG} {d : Nat} (hD : 0 ≤ d) {M : MM} (hM : LM M) {V : VV} {o : AV × MM} {P : (Int × VV) → Prop} (r0 : ∀ r : Int × VV, P r → o = ((0, r.1), (wr M r.2))) {z : Int × VV} (h : f_X16_draw V = some z) (hz : P z) : Sem g d YX16_draw 0 [(1, 156)] [] (wr M V) o := by
  delta f_X16_draw at h
  refine S_aload_n (i := 0) dX16_draw_0 rfl rfl ?_
  refine P2_gfr hM (a := 162) FLX16_25 rfl ⟨rfl, rfl⟩ dX16_draw_1 ?_
  refine S_bipush (z := 10) dX16_draw_4 rfl ?_
  refine S_aload_n (i := 0) dX16_draw_6 rfl rfl ?_
  refine P2_gfr hM (a := 162) FLX16_25 rfl ⟨rfl, rfl⟩ dX16_draw_7 ?_
  refine S_bipush (z := 10) dX16_draw_10 rfl ?_
  refine P2_lai hM (a := 162) (n := 11) rfl dX16_draw_12 h (fun v1 h => ?_)
  refine S_ldcw (z := 1103515245) kX16_423 dX16_draw_13 ?_
  refine S_imul dX16_draw_16 ?_
  refine S_sipush (z := 12345) dX16_draw_17 rfl ?_
  refine S_iadd dX16_draw_20 ?_
  refine S_ldc (z := 2147483647) kX16_32 dX16_draw_21 ?_
  refine S_iand dX16_draw_23 ?_
  refine P2_sai hM (a := 162) (n := 11) rfl dX16_draw_24 h (fun V1 h => ?_)
  refine S_aload_n (i := 0) dX16_draw_25 rfl rfl ?_
  refine P2_gfr hM (a := 162) FLX16_25 rfl ⟨rfl, rfl⟩ dX16_draw_26 ?_
  refine S_bipush (z := 10) dX16_draw_29 rfl ?_
  refine P2_lai hM (a := 162) (n := 11) rfl dX16_draw_31 h (fun v2 h => ?_)
  refine S_bipush (z := 16) dX16_draw_32 rfl ?_
  refine S_ishr dX16_draw_34 ?_
  obtain rfl := r0 _ (some_P (P := fun r => P r) h hz)
  exact P_ret dX16_draw_35 rfl (Or.inl rfl)
theorem F_X16_draw {g : GG} {d : Nat} (hD : 0 ≤ d) {M : MM} (hM : LM M) {V : VV} {r : Int × VV} (h : f_X16_draw V = some r) : Sem g d YX16_draw 0 (ini YX16_draw [(1, 156)]) [] (wr M V) ((0, r.1), (wr M r.2)) := by
  change Sem g d YX16_draw 0 [(1, 156)] [] (wr M V) ((0, r.1), (wr M r.2))
  exact s_X16_draw_0 hD hM (P := fun x => x = r) (fun q e => by rw [e]) h rfl
/-! PeerSearchModel.sideOf(I)I -/
theorem dX16_sideOf_0 : decode cX16_sideOf 0 = .ok (.aload_n 0, 1) := by decide +kernel
theorem dX16_sideOf_1 : decode cX16_sideOf 1 = .ok (.iload_n 1, 1) := by decide +kernel
theorem dX16_sideOf_2 : decode cX16_sideOf 2 = .ok (.invokevirtual 427, 3) := by decide +kernel
theorem dX16_sideOf_5 : decode cX16_sideOf 5 = .ok (.ifCond .eq 12, 3) := by decide +kernel
theorem dX16_sideOf_8 : decode cX16_sideOf 8 = .ok (.aload_n 0, 1) := by decide +kernel
theorem dX16_sideOf_9 : decode cX16_sideOf 9 = .ok (.getfield 39, 3) := by decide +kernel
theorem dX16_sideOf_12 : decode cX16_sideOf 12 = .ok (.iload_n 1, 1) := by decide +kernel
theorem dX16_sideOf_13 : decode cX16_sideOf 13 = .ok (.iaload, 1) := by decide +kernel
theorem dX16_sideOf_14 : decode cX16_sideOf 14 = .ok (.goto 4, 3) := by decide +kernel
theorem dX16_sideOf_17 : decode cX16_sideOf 17 = .ok (.iconst 0, 1) := by decide +kernel
theorem dX16_sideOf_18 : decode cX16_sideOf 18 = .ok (.ireturn, 1) := by decide +kernel
def j_X16_sideOf_18 (y0 : Int) (V : VV) : Option (Int) :=
  some y0
def f_X16_sideOf (x1 : Int) (V : VV) : Option (Int) :=
  (f_X16_isPeer x1 V).bind fun v1 =>
  if w32 v1 = 0 then
    j_X16_sideOf_18 0 V
  else
    (l2 166 32 x1 V).bind fun v2 =>
    j_X16_sideOf_18 v2 V
theorem s_X16_sideOf_18 {g : GG} {d : Nat} (hD : 1 ≤ d) {y0 : Int} {M : MM} (hM : LM M) {V : VV} {o : AV × MM} {P : (Int) → Prop} (r0 : ∀ r : Int, P r → o = ((0, r), (wr M V))) {z : Int} (h : j_X16_sideOf_18 y0 V = some z) (hz : P z) : Sem g d YX16_sideOf 18 [(9, 0), (9, 0)] [(0, y0)] (wr M V) o := by
  delta j_X16_sideOf_18 at h
  obtain rfl := r0 _ (some_P (P := fun r => P r) h hz)
  exact P_ret dX16_sideOf_18 rfl (Or.inl rfl)
theorem s_X16_sideOf_0 {g : GG} {d : Nat} (hD : 1 ≤ d) {x1 : Int} {M : MM} (hM : LM M) {V : VV} {o : AV × MM} {P : (Int) → Prop} (r0 : ∀ r : Int, P r → o = ((0, r), (wr M V))) {z : Int} (h : f_X16_sideOf x1 V = some z) (hz : P z) : Sem g d YX16_sideOf 0 [(1, 156), (0, x1)] [] (wr M V) o := by
  delta f_X16_sideOf at h
  refine S_aload_n (i := 0) dX16_sideOf_0 rfl rfl ?_
  refine S_iload_n (i := 1) dX16_sideOf_1 rfl rfl ?_
  refine P2_invVp hM 0 [(0, x1)] [] CVX16_isPeer MLX16_427 dX16_sideOf_2 rfl rfl rfl rfl rfl (by omega) h (fun r h => F_X16_isPeer (by omega) hM h) (fun v1 h => ?_)
  refine P_if_eq (tgt := 17) dX16_sideOf_5 rfl h (fun h => ?_) (fun h => ?_)
  · refine S_iconst dX16_sideOf_17 rfl ?_
    refine S_weak (ls' := [(9, 0), (9, 0)]) ⟨Or.inl rfl, ⟨Or.inl rfl, trivial⟩⟩ ?_
    exact s_X16_sideOf_18 hD hM r0 h hz
  · refine S_aload_n (i := 0) dX16_sideOf_8 rfl rfl ?_
    refine P2_gfr hM (a := 166) FLX16_39 rfl ⟨rfl, rfl⟩ dX16_sideOf_9 ?_
    refine S_iload_n (i := 1) dX16_sideOf_12 rfl rfl ?_
    refine P2_lai hM (a := 166) (n := 32) rfl dX16_sideOf_13 h (fun v2 h => ?_)
    refine S_goto (tgt := 18) dX16_sideOf_14 rfl ?_
    refine S_weak (ls' := [(9, 0), (9, 0)]) ⟨Or.inl rfl, ⟨Or.inl rfl, trivial⟩⟩ ?_
    exact s_X16_sideOf_18 hD hM r0 h hz
theorem F_X16_sideOf {g : GG} {d : Nat} (hD : 1 ≤ d) {x1 : Int} {M : MM} (hM : LM M) {V : VV} {r : Int} (h : f_X16_sideOf x1 V = some r) : Sem g d YX16_sideOf 0 (ini YX16_sideOf [(1, 156), (0, x1)]) [] (wr M V) ((0, r), (wr M V)) := by
  change Sem g d YX16_sideOf 0 [(1, 156), (0, x1)] [] (wr M V) ((0, r), (wr M V))
  exact s_X16_sideOf_0 hD hM (P := fun x => x = r) (fun q e => by rw [e]) h rfl
/-! PeerSearchModel.send(II)V -/
theorem dX16_send_0 : decode cX16_send 0 = .ok (.aload_n 0, 1) := by decide +kernel
theorem dX16_send_1 : decode cX16_send 1 = .ok (.getfield 57, 3) := by decide +kernel
theorem dX16_send_4 : decode cX16_send 4 = .ok (.iconst 5, 1) := by decide +kernel
theorem dX16_send_5 : decode cX16_send 5 = .ok (.iload_n 1, 1) := by decide +kernel
theorem dX16_send_6 : decode cX16_send 6 = .ok (.imul, 1) := by decide +kernel
theorem dX16_send_7 : decode cX16_send 7 = .ok (.iconst 3, 1) := by decide +kernel
theorem dX16_send_8 : decode cX16_send 8 = .ok (.iadd, 1) := by decide +kernel
theorem dX16_send_9 : decode cX16_send 9 = .ok (.dup2, 1) := by decide +kernel
theorem dX16_send_10 : decode cX16_send 10 = .ok (.iaload, 1) := by decide +kernel
theorem dX16_send_11 : decode cX16_send 11 = .ok (.iconst 1, 1) := by decide +kernel
theorem dX16_send_12 : decode cX16_send 12 = .ok (.iadd, 1) := by decide +kernel
theorem dX16_send_13 : decode cX16_send 13 = .ok (.iastore, 1) := by decide +kernel
theorem dX16_send_14 : decode cX16_send 14 = .ok (.aload_n 0, 1) := by decide +kernel
theorem dX16_send_15 : decode cX16_send 15 = .ok (.iload_n 1, 1) := by decide +kernel
theorem dX16_send_16 : decode cX16_send 16 = .ok (.invokevirtual 473, 3) := by decide +kernel
theorem dX16_send_19 : decode cX16_send 19 = .ok (.aload_n 0, 1) := by decide +kernel
theorem dX16_send_20 : decode cX16_send 20 = .ok (.iload_n 2, 1) := by decide +kernel
theorem dX16_send_21 : decode cX16_send 21 = .ok (.invokevirtual 473, 3) := by decide +kernel
theorem dX16_send_24 : decode cX16_send 24 = .ok (.if_icmp .ne 13, 3) := by decide +kernel
theorem dX16_send_27 : decode cX16_send 27 = .ok (.aload_n 0, 1) := by decide +kernel
theorem dX16_send_28 : decode cX16_send 28 = .ok (.getfield 464, 3) := by decide +kernel
theorem dX16_send_31 : decode cX16_send 31 = .ok (.sipush 400, 3) := by decide +kernel
theorem dX16_send_34 : decode cX16_send 34 = .ok (.if_icmp .ne 14, 3) := by decide +kernel
theorem dX16_send_37 : decode cX16_send 37 = .ok (.aload_n 0, 1) := by decide +kernel
theorem dX16_send_38 : decode cX16_send 38 = .ok (.dup, 1) := by decide +kernel
theorem dX16_send_39 : decode cX16_send 39 = .ok (.getfield 476, 3) := by decide +kernel
theorem dX16_send_42 : decode cX16_send 42 = .ok (.iconst 1, 1) := by decide +kernel
theorem dX16_send_43 : decode cX16_send 43 = .ok (.iadd, 1) := by decide +kernel
theorem dX16_send_44 : decode cX16_send 44 = .ok (.putfield 476, 3) := by decide +kernel
theorem dX16_send_47 : decode cX16_send 47 = .ok (.return_, 1) := by decide +kernel
theorem dX16_send_48 : decode cX16_send 48 = .ok (.aload_n 0, 1) := by decide +kernel
theorem dX16_send_49 : decode cX16_send 49 = .ok (.invokevirtual 479, 3) := by decide +kernel
theorem dX16_send_52 : decode cX16_send 52 = .ok (.sipush 1000, 3) := by decide +kernel
theorem dX16_send_55 : decode cX16_send 55 = .ok (.irem, 1) := by decide +kernel
theorem dX16_send_56 : decode cX16_send 56 = .ok (.aload_n 0, 1) := by decide +kernel
theorem dX16_send_57 : decode cX16_send 57 = .ok (.getfield 25, 3) := by decide +kernel
theorem dX16_send_60 : decode cX16_send 60 = .ok (.iconst 0, 1) := by decide +kernel
theorem dX16_send_61 : decode cX16_send 61 = .ok (.iaload, 1) := by decide +kernel
theorem dX16_send_62 : decode cX16_send 62 = .ok (.if_icmp .ge 14, 3) := by decide +kernel
theorem dX16_send_65 : decode cX16_send 65 = .ok (.aload_n 0, 1) := by decide +kernel
theorem dX16_send_66 : decode cX16_send 66 = .ok (.dup, 1) := by decide +kernel
theorem dX16_send_67 : decode cX16_send 67 = .ok (.getfield 476, 3) := by decide +kernel
theorem dX16_send_70 : decode cX16_send 70 = .ok (.iconst 1, 1) := by decide +kernel
theorem dX16_send_71 : decode cX16_send 71 = .ok (.iadd, 1) := by decide +kernel
theorem dX16_send_72 : decode cX16_send 72 = .ok (.putfield 476, 3) := by decide +kernel
theorem dX16_send_75 : decode cX16_send 75 = .ok (.return_, 1) := by decide +kernel
theorem dX16_send_76 : decode cX16_send 76 = .ok (.aload_n 0, 1) := by decide +kernel
theorem dX16_send_77 : decode cX16_send 77 = .ok (.iload_n 1, 1) := by decide +kernel
theorem dX16_send_78 : decode cX16_send 78 = .ok (.iload_n 2, 1) := by decide +kernel
theorem dX16_send_79 : decode cX16_send 79 = .ok (.aload_n 0, 1) := by decide +kernel
theorem dX16_send_80 : decode cX16_send 80 = .ok (.getfield 483, 3) := by decide +kernel
theorem dX16_send_83 : decode cX16_send 83 = .ok (.aload_n 0, 1) := by decide +kernel
theorem dX16_send_84 : decode cX16_send 84 = .ok (.getfield 25, 3) := by decide +kernel
theorem dX16_send_87 : decode cX16_send 87 = .ok (.iconst 1, 1) := by decide +kernel
theorem dX16_send_88 : decode cX16_send 88 = .ok (.iaload, 1) := by decide +kernel
theorem dX16_send_89 : decode cX16_send 89 = .ok (.iadd, 1) := by decide +kernel
theorem dX16_send_90 : decode cX16_send 90 = .ok (.aload_n 0, 1) := by decide +kernel
theorem dX16_send_91 : decode cX16_send 91 = .ok (.invokevirtual 479, 3) := by decide +kernel
theorem dX16_send_94 : decode cX16_send 94 = .ok (.aload_n 0, 1) := by decide +kernel
theorem dX16_send_95 : decode cX16_send 95 = .ok (.getfield 25, 3) := by decide +kernel
theorem dX16_send_98 : decode cX16_send 98 = .ok (.iconst 2, 1) := by decide +kernel
theorem dX16_send_99 : decode cX16_send 99 = .ok (.iaload, 1) := by decide +kernel
theorem dX16_send_100 : decode cX16_send 100 = .ok (.iconst 1, 1) := by decide +kernel
theorem dX16_send_101 : decode cX16_send 101 = .ok (.iadd, 1) := by decide +kernel
theorem dX16_send_102 : decode cX16_send 102 = .ok (.irem, 1) := by decide +kernel
theorem dX16_send_103 : decode cX16_send 103 = .ok (.iadd, 1) := by decide +kernel
theorem dX16_send_104 : decode cX16_send 104 = .ok (.invokevirtual 486, 3) := by decide +kernel
theorem dX16_send_107 : decode cX16_send 107 = .ok (.aload_n 0, 1) := by decide +kernel
theorem dX16_send_108 : decode cX16_send 108 = .ok (.invokevirtual 479, 3) := by decide +kernel
theorem dX16_send_111 : decode cX16_send 111 = .ok (.sipush 1000, 3) := by decide +kernel
theorem dX16_send_114 : decode cX16_send 114 = .ok (.irem, 1) := by decide +kernel
theorem dX16_send_115 : decode cX16_send 115 = .ok (.aload_n 0, 1) := by decide +kernel
theorem dX16_send_116 : decode cX16_send 116 = .ok (.getfield 25, 3) := by decide +kernel
theorem dX16_send_119 : decode cX16_send 119 = .ok (.iconst 3, 1) := by decide +kernel
theorem dX16_send_120 : decode cX16_send 120 = .ok (.iaload, 1) := by decide +kernel
theorem dX16_send_121 : decode cX16_send 121 = .ok (.if_icmp .lt 4, 3) := by decide +kernel
theorem dX16_send_124 : decode cX16_send 124 = .ok (.return_, 1) := by decide +kernel
theorem dX16_send_125 : decode cX16_send 125 = .ok (.aload_n 0, 1) := by decide +kernel
theorem dX16_send_126 : decode cX16_send 126 = .ok (.getfield 464, 3) := by decide +kernel
theorem dX16_send_129 : decode cX16_send 129 = .ok (.sipush 400, 3) := by decide +kernel
theorem dX16_send_132 : decode cX16_send 132 = .ok (.if_icmp .ne 14, 3) := by decide +kernel
theorem dX16_send_135 : decode cX16_send 135 = .ok (.aload_n 0, 1) := by decide +kernel
theorem dX16_send_136 : decode cX16_send 136 = .ok (.dup, 1) := by decide +kernel
theorem dX16_send_137 : decode cX16_send 137 = .ok (.getfield 476, 3) := by decide +kernel
theorem dX16_send_140 : decode cX16_send 140 = .ok (.iconst 1, 1) := by decide +kernel
theorem dX16_send_141 : decode cX16_send 141 = .ok (.iadd, 1) := by decide +kernel
theorem dX16_send_142 : decode cX16_send 142 = .ok (.putfield 476, 3) := by decide +kernel
theorem dX16_send_145 : decode cX16_send 145 = .ok (.return_, 1) := by decide +kernel
theorem dX16_send_146 : decode cX16_send 146 = .ok (.aload_n 0, 1) := by decide +kernel
theorem dX16_send_147 : decode cX16_send 147 = .ok (.iload_n 1, 1) := by decide +kernel
theorem dX16_send_148 : decode cX16_send 148 = .ok (.iload_n 2, 1) := by decide +kernel
theorem dX16_send_149 : decode cX16_send 149 = .ok (.aload_n 0, 1) := by decide +kernel
theorem dX16_send_150 : decode cX16_send 150 = .ok (.getfield 483, 3) := by decide +kernel
theorem dX16_send_153 : decode cX16_send 153 = .ok (.aload_n 0, 1) := by decide +kernel
theorem dX16_send_154 : decode cX16_send 154 = .ok (.getfield 25, 3) := by decide +kernel
theorem dX16_send_157 : decode cX16_send 157 = .ok (.iconst 1, 1) := by decide +kernel
theorem dX16_send_158 : decode cX16_send 158 = .ok (.iaload, 1) := by decide +kernel
theorem dX16_send_159 : decode cX16_send 159 = .ok (.iadd, 1) := by decide +kernel
theorem dX16_send_160 : decode cX16_send 160 = .ok (.aload_n 0, 1) := by decide +kernel
theorem dX16_send_161 : decode cX16_send 161 = .ok (.invokevirtual 479, 3) := by decide +kernel
theorem dX16_send_164 : decode cX16_send 164 = .ok (.aload_n 0, 1) := by decide +kernel
theorem dX16_send_165 : decode cX16_send 165 = .ok (.getfield 25, 3) := by decide +kernel
theorem dX16_send_168 : decode cX16_send 168 = .ok (.iconst 2, 1) := by decide +kernel
theorem dX16_send_169 : decode cX16_send 169 = .ok (.iaload, 1) := by decide +kernel
theorem dX16_send_170 : decode cX16_send 170 = .ok (.iconst 1, 1) := by decide +kernel
theorem dX16_send_171 : decode cX16_send 171 = .ok (.iadd, 1) := by decide +kernel
theorem dX16_send_172 : decode cX16_send 172 = .ok (.irem, 1) := by decide +kernel
theorem dX16_send_173 : decode cX16_send 173 = .ok (.iadd, 1) := by decide +kernel
theorem dX16_send_174 : decode cX16_send 174 = .ok (.invokevirtual 486, 3) := by decide +kernel
theorem dX16_send_177 : decode cX16_send 177 = .ok (.return_, 1) := by decide +kernel
def j_X16_send_145 (V : VV) : Option (VV) :=
  some V
def j_X16_send_37 (V : VV) : Option (VV) :=
  (p2 12 ((w32 (V 156 12)) + 1) V).bind fun V1 =>
  some V1
def f_X16_send (x1 x2 : Int) (V : VV) : Option (VV) :=
  (l2 172 160 ((5 * x1) + 3) V).bind fun v1 =>
  (s2 172 160 ((5 * x1) + 3) (v1 + 1) V).bind fun V1 =>
  (f_X16_sideOf x1 V1).bind fun v2 =>
  (f_X16_sideOf x2 V1).bind fun v3 =>
  if w32 v2 = w32 v3 then
    if w32 (w32 (V1 156 32)) = w32 400 then
      j_X16_send_37 V1
    else
      (f_X16_draw V1).bind fun r1 =>
      (rmi r1.1 1000).bind fun v4 =>
      (l2 162 11 0 r1.2).bind fun v5 =>
      if w32 v4 < w32 v5 then
        (p2 12 ((w32 (r1.2 156 12)) + 1) r1.2).bind fun V5 =>
        some V5
      else
        (l2 162 11 1 r1.2).bind fun v6 =>
        (f_X16_draw r1.2).bind fun r2 =>
        (l2 162 11 2 r2.2).bind fun v7 =>
        (rmi r2.1 (v7 + 1)).bind fun v8 =>
        (f_X16_launch x1 x2 (((w32 (r1.2 156 11)) + v6) + v8) r2.2).bind fun V2 =>
        (f_X16_draw V2).bind fun r3 =>
        (rmi r3.1 1000).bind fun v9 =>
        (l2 162 11 3 r3.2).bind fun v10 =>
        if w32 v9 < w32 v10 then
          if w32 (w32 (r3.2 156 32)) = w32 400 then
            (p2 12 ((w32 (r3.2 156 12)) + 1) r3.2).bind fun V4 =>
            j_X16_send_145 V4
          else
            (l2 162 11 1 r3.2).bind fun v11 =>
            (f_X16_draw r3.2).bind fun r4 =>
            (l2 162 11 2 r4.2).bind fun v12 =>
            (rmi r4.1 (v12 + 1)).bind fun v13 =>
            (f_X16_launch x1 x2 (((w32 (r3.2 156 11)) + v11) + v13) r4.2).bind fun V3 =>
            some V3
        else
          some r3.2
  else
    j_X16_send_37 V1
theorem s_X16_send_145 {g : GG} {d : Nat} (hD : 2 ≤ d) {M : MM} (hM : LM M) {V : VV} {o : AV × MM} {P : (VV) → Prop} (r0 : ∀ r : VV, P r → o = ((9, 0), (wr M r))) {z : VV} (h : j_X16_send_145 V = some z) (hz : P z) : Sem g d YX16_send 145 [(9, 0), (9, 0), (9, 0)] [] (wr M V) o := by
  delta j_X16_send_145 at h
  obtain rfl := r0 _ (some_P (P := fun r => P r) h hz)
  exact S_return dX16_send_145 rfl
theorem s_X16_send_37 {g : GG} {d : Nat} (hD : 2 ≤ d) {M : MM} (hM : LM M) {V : VV} {o : AV × MM} {P : (VV) → Prop} (r0 : ∀ r : VV, P r → o = ((9, 0), (wr M r))) {z : VV} (h : j_X16_send_37 V = some z) (hz : P z) : Sem g d YX16_send 37 [(1, 156), (9, 0), (9, 0)] [] (wr M V) o := by
  delta j_X16_send_37 at h
  refine S_aload_n (i := 0) dX16_send_37 rfl rfl ?_
  refine S_dup dX16_send_38 (Nat.le_of_ble_eq_true rfl) ?_
  refine P2_gfi hM FLX16_476 rfl dX16_send_39 ?_
  refine S_iconst dX16_send_42 rfl ?_
  refine S_iadd dX16_send_43 ?_
  refine P2_pfi hM FLX16_476 FPX16_476 rfl dX16_send_44 h (fun V1 h => ?_)
  obtain rfl := r0 _ (some_P (P := fun r => P r) h hz)
  exact S_return dX16_send_47 rfl
theorem s_X16_send_0 {g : GG} {d : Nat} (hD : 2 ≤ d) {x1 x2 : Int} {M : MM} (hM : LM M) {V : VV} {o : AV × MM} {P : (VV) → Prop} (r0 : ∀ r : VV, P r → o = ((9, 0), (wr M r))) {z : VV} (h : f_X16_send x1 x2 V = some z) (hz : P z) : Sem g d YX16_send 0 [(1, 156), (0, x1), (0, x2)] [] (wr M V) o := by
  delta f_X16_send at h
  refine S_aload_n (i := 0) dX16_send_0 rfl rfl ?_
  refine P2_gfr hM (a := 172) FLX16_57 rfl ⟨rfl, rfl⟩ dX16_send_1 ?_
  refine S_iconst dX16_send_4 rfl ?_
  refine S_iload_n (i := 1) dX16_send_5 rfl rfl ?_
  refine S_imul dX16_send_6 ?_
  refine S_iconst dX16_send_7 rfl ?_
  refine S_iadd dX16_send_8 ?_
  refine S_dup2 dX16_send_9 (Nat.le_of_ble_eq_true rfl) (Nat.le_of_ble_eq_true rfl) ?_
  refine P2_lai hM (a := 172) (n := 160) rfl dX16_send_10 h (fun v1 h => ?_)
  refine S_iconst dX16_send_11 rfl ?_
  refine S_iadd dX16_send_12 ?_
  refine P2_sai hM (a := 172) (n := 160) rfl dX16_send_13 h (fun V1 h => ?_)
  refine S_aload_n (i := 0) dX16_send_14 rfl rfl ?_
  refine S_iload_n (i := 1) dX16_send_15 rfl rfl ?_
  refine P2_invVp hM 0 [(0, x1)] [] CVX16_sideOf MLX16_473 dX16_send_16 rfl rfl rfl rfl rfl (by omega) h (fun r h => F_X16_sideOf (by omega) hM h) (fun v2 h => ?_)
  refine S_aload_n (i := 0) dX16_send_19 rfl rfl ?_
  refine S_iload_n (i := 2) dX16_send_20 rfl rfl ?_
  refine P2_invVp hM 0 [(0, x2)] [(0, v2)] CVX16_sideOf MLX16_473 dX16_send_21 rfl rfl rfl rfl rfl (by omega) h (fun r h => F_X16_sideOf (by omega) hM h) (fun v3 h => ?_)
  refine P_icmp_ne (tgt := 37) dX16_send_24 rfl h (fun h => ?_) (fun h => ?_)
  · refine S_weak (ls' := [(1, 156), (9, 0), (9, 0)]) ⟨Or.inr rfl, ⟨Or.inl rfl, ⟨Or.inl rfl, trivial⟩⟩⟩ ?_
    exact s_X16_send_37 hD hM r0 h hz
  · refine S_aload_n (i := 0) dX16_send_27 rfl rfl ?_
    refine P2_gfi hM FLX16_464 rfl dX16_send_28 ?_
    refine S_sipush (z := 400) dX16_send_31 rfl ?_
    refine P_icmp_ne (tgt := 48) dX16_send_34 rfl h (fun h => ?_) (fun h => ?_)
    · refine S_aload_n (i := 0) dX16_send_48 rfl rfl ?_
      refine P2_invVe hM 0 [] [] CVX16_draw MLX16_479 dX16_send_49 rfl rfl rfl rfl rfl (by omega) h (fun r h => F_X16_draw (by omega) hM h) (fun r1 h => ?_)
      refine S_sipush (z := 1000) dX16_send_52 rfl ?_
      refine P_rmi dX16_send_55 h (fun v4 h => ?_)
      refine S_aload_n (i := 0) dX16_send_56 rfl rfl ?_
      refine P2_gfr hM (a := 162) FLX16_25 rfl ⟨rfl, rfl⟩ dX16_send_57 ?_
      refine S_iconst dX16_send_60 rfl ?_
      refine P2_lai hM (a := 162) (n := 11) rfl dX16_send_61 h (fun v5 h => ?_)
      refine P_icmp_ge (tgt := 76) dX16_send_62 rfl h (fun h => ?_) (fun h => ?_)
      · refine S_aload_n (i := 0) dX16_send_76 rfl rfl ?_
        refine S_iload_n (i := 1) dX16_send_77 rfl rfl ?_
        refine S_iload_n (i := 2) dX16_send_78 rfl rfl ?_
        refine S_aload_n (i := 0) dX16_send_79 rfl rfl ?_
        refine P2_gfi hM FLX16_483 rfl dX16_send_80 ?_
        refine S_aload_n (i := 0) dX16_send_83 rfl rfl ?_
        refine P2_gfr hM (a := 162) FLX16_25 rfl ⟨rfl, rfl⟩ dX16_send_84 ?_
        refine S_iconst dX16_send_87 rfl ?_
        refine P2_lai hM (a := 162) (n := 11) rfl dX16_send_88 h (fun v6 h => ?_)
        refine S_iadd dX16_send_89 ?_
        refine S_aload_n (i := 0) dX16_send_90 rfl rfl ?_
        refine P2_invVe hM 0 [] [(0, (w32 (r1.2 156 11)) + v6), (0, x2), (0, x1), (1, 156)] CVX16_draw MLX16_479 dX16_send_91 rfl rfl rfl rfl rfl (by omega) h (fun r h => F_X16_draw (by omega) hM h) (fun r2 h => ?_)
        refine S_aload_n (i := 0) dX16_send_94 rfl rfl ?_
        refine P2_gfr hM (a := 162) FLX16_25 rfl ⟨rfl, rfl⟩ dX16_send_95 ?_
        refine S_iconst dX16_send_98 rfl ?_
        refine P2_lai hM (a := 162) (n := 11) rfl dX16_send_99 h (fun v7 h => ?_)
        refine S_iconst dX16_send_100 rfl ?_
        refine S_iadd dX16_send_101 ?_
        refine P_rmi dX16_send_102 h (fun v8 h => ?_)
        refine S_iadd dX16_send_103 ?_
        refine P2_invVm hM [(0, x1), (0, x2), (0, ((w32 (r1.2 156 11)) + v6) + v8)] [] CVX16_launch MLX16_486 dX16_send_104 rfl rfl rfl rfl (by omega) h (fun r h => F_X16_launch (by omega) hM h) (fun V2 h => ?_)
        refine S_aload_n (i := 0) dX16_send_107 rfl rfl ?_
        refine P2_invVe hM 0 [] [] CVX16_draw MLX16_479 dX16_send_108 rfl rfl rfl rfl rfl (by omega) h (fun r h => F_X16_draw (by omega) hM h) (fun r3 h => ?_)
        refine S_sipush (z := 1000) dX16_send_111 rfl ?_
        refine P_rmi dX16_send_114 h (fun v9 h => ?_)
        refine S_aload_n (i := 0) dX16_send_115 rfl rfl ?_
        refine P2_gfr hM (a := 162) FLX16_25 rfl ⟨rfl, rfl⟩ dX16_send_116 ?_
        refine S_iconst dX16_send_119 rfl ?_
        refine P2_lai hM (a := 162) (n := 11) rfl dX16_send_120 h (fun v10 h => ?_)
        refine P_icmp_lt (tgt := 125) dX16_send_121 rfl h (fun h => ?_) (fun h => ?_)
        · refine S_aload_n (i := 0) dX16_send_125 rfl rfl ?_
          refine P2_gfi hM FLX16_464 rfl dX16_send_126 ?_
          refine S_sipush (z := 400) dX16_send_129 rfl ?_
          refine P_icmp_ne (tgt := 146) dX16_send_132 rfl h (fun h => ?_) (fun h => ?_)
          · refine S_aload_n (i := 0) dX16_send_146 rfl rfl ?_
            refine S_iload_n (i := 1) dX16_send_147 rfl rfl ?_
            refine S_iload_n (i := 2) dX16_send_148 rfl rfl ?_
            refine S_aload_n (i := 0) dX16_send_149 rfl rfl ?_
            refine P2_gfi hM FLX16_483 rfl dX16_send_150 ?_
            refine S_aload_n (i := 0) dX16_send_153 rfl rfl ?_
            refine P2_gfr hM (a := 162) FLX16_25 rfl ⟨rfl, rfl⟩ dX16_send_154 ?_
            refine S_iconst dX16_send_157 rfl ?_
            refine P2_lai hM (a := 162) (n := 11) rfl dX16_send_158 h (fun v11 h => ?_)
            refine S_iadd dX16_send_159 ?_
            refine S_aload_n (i := 0) dX16_send_160 rfl rfl ?_
            refine P2_invVe hM 0 [] [(0, (w32 (r3.2 156 11)) + v11), (0, x2), (0, x1), (1, 156)] CVX16_draw MLX16_479 dX16_send_161 rfl rfl rfl rfl rfl (by omega) h (fun r h => F_X16_draw (by omega) hM h) (fun r4 h => ?_)
            refine S_aload_n (i := 0) dX16_send_164 rfl rfl ?_
            refine P2_gfr hM (a := 162) FLX16_25 rfl ⟨rfl, rfl⟩ dX16_send_165 ?_
            refine S_iconst dX16_send_168 rfl ?_
            refine P2_lai hM (a := 162) (n := 11) rfl dX16_send_169 h (fun v12 h => ?_)
            refine S_iconst dX16_send_170 rfl ?_
            refine S_iadd dX16_send_171 ?_
            refine P_rmi dX16_send_172 h (fun v13 h => ?_)
            refine S_iadd dX16_send_173 ?_
            refine P2_invVm hM [(0, x1), (0, x2), (0, ((w32 (r3.2 156 11)) + v11) + v13)] [] CVX16_launch MLX16_486 dX16_send_174 rfl rfl rfl rfl (by omega) h (fun r h => F_X16_launch (by omega) hM h) (fun V3 h => ?_)
            obtain rfl := r0 _ (some_P (P := fun r => P r) h hz)
            exact S_return dX16_send_177 rfl
          · refine S_aload_n (i := 0) dX16_send_135 rfl rfl ?_
            refine S_dup dX16_send_136 (Nat.le_of_ble_eq_true rfl) ?_
            refine P2_gfi hM FLX16_476 rfl dX16_send_137 ?_
            refine S_iconst dX16_send_140 rfl ?_
            refine S_iadd dX16_send_141 ?_
            refine P2_pfi hM FLX16_476 FPX16_476 rfl dX16_send_142 h (fun V4 h => ?_)
            refine S_weak (ls' := [(9, 0), (9, 0), (9, 0)]) ⟨Or.inl rfl, ⟨Or.inl rfl, ⟨Or.inl rfl, trivial⟩⟩⟩ ?_
            exact s_X16_send_145 hD hM r0 h hz
        · obtain rfl := r0 _ (some_P (P := fun r => P r) h hz)
          exact S_return dX16_send_124 rfl
      · refine S_aload_n (i := 0) dX16_send_65 rfl rfl ?_
        refine S_dup dX16_send_66 (Nat.le_of_ble_eq_true rfl) ?_
        refine P2_gfi hM FLX16_476 rfl dX16_send_67 ?_
        refine S_iconst dX16_send_70 rfl ?_
        refine S_iadd dX16_send_71 ?_
        refine P2_pfi hM FLX16_476 FPX16_476 rfl dX16_send_72 h (fun V5 h => ?_)
        obtain rfl := r0 _ (some_P (P := fun r => P r) h hz)
        exact S_return dX16_send_75 rfl
    · refine S_weak (ls' := [(1, 156), (9, 0), (9, 0)]) ⟨Or.inr rfl, ⟨Or.inl rfl, ⟨Or.inl rfl, trivial⟩⟩⟩ ?_
      exact s_X16_send_37 hD hM r0 h hz
theorem F_X16_send {g : GG} {d : Nat} (hD : 2 ≤ d) {x1 x2 : Int} {M : MM} (hM : LM M) {V : VV} {r : VV} (h : f_X16_send x1 x2 V = some r) : Sem g d YX16_send 0 (ini YX16_send [(1, 156), (0, x1), (0, x2)]) [] (wr M V) ((9, 0), (wr M r)) := by
  change Sem g d YX16_send 0 [(1, 156), (0, x1), (0, x2)] [] (wr M V) ((9, 0), (wr M r))
  exact s_X16_send_0 hD hM (P := fun x => x = r) (fun q e => by rw [e]) h rfl
/-! PeerSearchModel.go(II)V -/
theorem dX16_go_0 : decode cX16_go 0 = .ok (.aload_n 0, 1) := by decide +kernel
theorem dX16_go_1 : decode cX16_go 1 = .ok (.aload_n 0, 1) := by decide +kernel
theorem dX16_go_2 : decode cX16_go 2 = .ok (.getfield 167, 3) := by decide +kernel
theorem dX16_go_5 : decode cX16_go 5 = .ok (.iload_n 2, 1) := by decide +kernel
theorem dX16_go_6 : decode cX16_go 6 = .ok (.iaload, 1) := by decide +kernel
theorem dX16_go_7 : decode cX16_go 7 = .ok (.putfield 470, 3) := by decide +kernel
theorem dX16_go_10 : decode cX16_go 10 = .ok (.iconst 0, 1) := by decide +kernel
theorem dX16_go_11 : decode cX16_go 11 = .ok (.istore_n 3, 1) := by decide +kernel
theorem dX16_go_12 : decode cX16_go 12 = .ok (.iload_n 3, 1) := by decide +kernel
theorem dX16_go_13 : decode cX16_go 13 = .ok (.aload_n 0, 1) := by decide +kernel
theorem dX16_go_14 : decode cX16_go 14 = .ok (.getfield 470, 3) := by decide +kernel
theorem dX16_go_17 : decode cX16_go 17 = .ok (.if_icmp .ge 27, 3) := by decide +kernel
theorem dX16_go_20 : decode cX16_go 20 = .ok (.aload_n 0, 1) := by decide +kernel
theorem dX16_go_21 : decode cX16_go 21 = .ok (.getfield 107, 3) := by decide +kernel
theorem dX16_go_24 : decode cX16_go 24 = .ok (.iload_n 3, 1) := by decide +kernel
theorem dX16_go_25 : decode cX16_go 25 = .ok (.aload_n 0, 1) := by decide +kernel
theorem dX16_go_26 : decode cX16_go 26 = .ok (.getfield 171, 3) := by decide +kernel
theorem dX16_go_29 : decode cX16_go 29 = .ok (.sipush 350, 3) := by decide +kernel
theorem dX16_go_32 : decode cX16_go 32 = .ok (.iload_n 2, 1) := by decide +kernel
theorem dX16_go_33 : decode cX16_go 33 = .ok (.imul, 1) := by decide +kernel
theorem dX16_go_34 : decode cX16_go 34 = .ok (.iload_n 3, 1) := by decide +kernel
theorem dX16_go_35 : decode cX16_go 35 = .ok (.iadd, 1) := by decide +kernel
theorem dX16_go_36 : decode cX16_go 36 = .ok (.iaload, 1) := by decide +kernel
theorem dX16_go_37 : decode cX16_go 37 = .ok (.iastore, 1) := by decide +kernel
theorem dX16_go_38 : decode cX16_go 38 = .ok (.iinc 3 1, 3) := by decide +kernel
theorem dX16_go_41 : decode cX16_go 41 = .ok (.goto (-29), 3) := by decide +kernel
theorem dX16_go_44 : decode cX16_go 44 = .ok (.aload_n 0, 1) := by decide +kernel
theorem dX16_go_45 : decode cX16_go 45 = .ok (.getfield 155, 3) := by decide +kernel
theorem dX16_go_48 : decode cX16_go 48 = .ok (.iload_n 2, 1) := by decide +kernel
theorem dX16_go_49 : decode cX16_go 49 = .ok (.dup2, 1) := by decide +kernel
theorem dX16_go_50 : decode cX16_go 50 = .ok (.iaload, 1) := by decide +kernel
theorem dX16_go_51 : decode cX16_go 51 = .ok (.iconst 1, 1) := by decide +kernel
theorem dX16_go_52 : decode cX16_go 52 = .ok (.iadd, 1) := by decide +kernel
theorem dX16_go_53 : decode cX16_go 53 = .ok (.iastore, 1) := by decide +kernel
theorem dX16_go_54 : decode cX16_go 54 = .ok (.aload_n 0, 1) := by decide +kernel
theorem dX16_go_55 : decode cX16_go 55 = .ok (.getfield 152, 3) := by decide +kernel
theorem dX16_go_58 : decode cX16_go 58 = .ok (.iload_n 2, 1) := by decide +kernel
theorem dX16_go_59 : decode cX16_go 59 = .ok (.aload_n 0, 1) := by decide +kernel
theorem dX16_go_60 : decode cX16_go 60 = .ok (.getfield 483, 3) := by decide +kernel
theorem dX16_go_63 : decode cX16_go 63 = .ok (.aload_n 0, 1) := by decide +kernel
theorem dX16_go_64 : decode cX16_go 64 = .ok (.getfield 25, 3) := by decide +kernel
theorem dX16_go_67 : decode cX16_go 67 = .ok (.iconst 4, 1) := by decide +kernel
theorem dX16_go_68 : decode cX16_go 68 = .ok (.iaload, 1) := by decide +kernel
theorem dX16_go_69 : decode cX16_go 69 = .ok (.iadd, 1) := by decide +kernel
theorem dX16_go_70 : decode cX16_go 70 = .ok (.iastore, 1) := by decide +kernel
theorem dX16_go_71 : decode cX16_go 71 = .ok (.aload_n 0, 1) := by decide +kernel
theorem dX16_go_72 : decode cX16_go 72 = .ok (.iload_n 1, 1) := by decide +kernel
theorem dX16_go_73 : decode cX16_go 73 = .ok (.aload_n 0, 1) := by decide +kernel
theorem dX16_go_74 : decode cX16_go 74 = .ok (.getfield 143, 3) := by decide +kernel
theorem dX16_go_77 : decode cX16_go 77 = .ok (.iload_n 2, 1) := by decide +kernel
theorem dX16_go_78 : decode cX16_go 78 = .ok (.iaload, 1) := by decide +kernel
theorem dX16_go_79 : decode cX16_go 79 = .ok (.invokevirtual 556, 3) := by decide +kernel
theorem dX16_go_82 : decode cX16_go 82 = .ok (.return_, 1) := by decide +kernel
def j_X16_go_44 (x1 x2 : Int) (V : VV) : Option (VV) :=
  (l2 203 1280 x2 V).bind fun v1 =>
  (s2 203 1280 x2 (v1 + 1) V).bind fun V1 =>
  (l2 162 11 4 V1).bind fun v2 =>
  (s2 202 1280 x2 ((w32 (V1 156 11)) + v2) V1).bind fun V2 =>
  (l2 199 1280 x2 V2).bind fun v3 =>
  (f_X16_send x1 v3 V2).bind fun V3 =>
  some V3
def b_X16_go_12 (x1 x2 x3 : Int) (V : VV) : Option ((Int × VV) ⊕ (VV)) :=
  if w32 x3 < w32 (w32 (V 156 41)) then
    (l2 208 448000 ((350 * x2) + x3) V).bind fun v1 =>
    (s2 188 460 x3 v1 V).bind fun V1 =>
    cnt (x3 + 1, V1)
  else
    xit (j_X16_go_44 x1 x2 V)
def l_X16_go_12 (x1 x2 x3 : Int) (V : VV) : Option (VV) := lpN (fun s : Int × VV => b_X16_go_12 x1 x2 s.1 s.2) FU (x3, V)
def f_X16_go (x1 x2 : Int) (V : VV) : Option (VV) :=
  (l2 207 1280 x2 V).bind fun v1 =>
  (p2 41 v1 V).bind fun V1 =>
  l_X16_go_12 x1 x2 0 V1
theorem s_X16_go_44 {g : GG} {d : Nat} (hD : 3 ≤ d) {x1 x2 : Int} {M : MM} (hM : LM M) {V : VV} {o : AV × MM} {P : (VV) → Prop} (r0 : ∀ r : VV, P r → o = ((9, 0), (wr M r))) {z : VV} (h : j_X16_go_44 x1 x2 V = some z) (hz : P z) : Sem g d YX16_go 44 [(1, 156), (0, x1), (0, x2), (9, 0)] [] (wr M V) o := by
  delta j_X16_go_44 at h
  refine S_aload_n (i := 0) dX16_go_44 rfl rfl ?_
  refine P2_gfr hM (a := 203) FLX16_155 rfl ⟨rfl, rfl⟩ dX16_go_45 ?_
  refine S_iload_n (i := 2) dX16_go_48 rfl rfl ?_
  refine S_dup2 dX16_go_49 (Nat.le_of_ble_eq_true rfl) (Nat.le_of_ble_eq_true rfl) ?_
  refine P2_lai hM (a := 203) (n := 1280) rfl dX16_go_50 h (fun v1 h => ?_)
  refine S_iconst dX16_go_51 rfl ?_
  refine S_iadd dX16_go_52 ?_
  refine P2_sai hM (a := 203) (n := 1280) rfl dX16_go_53 h (fun V1 h => ?_)
  refine S_aload_n (i := 0) dX16_go_54 rfl rfl ?_
  refine P2_gfr hM (a := 202) FLX16_152 rfl ⟨rfl, rfl⟩ dX16_go_55 ?_
  refine S_iload_n (i := 2) dX16_go_58 rfl rfl ?_
  refine S_aload_n (i := 0) dX16_go_59 rfl rfl ?_
  refine P2_gfi hM FLX16_483 rfl dX16_go_60 ?_
  refine S_aload_n (i := 0) dX16_go_63 rfl rfl ?_
  refine P2_gfr hM (a := 162) FLX16_25 rfl ⟨rfl, rfl⟩ dX16_go_64 ?_
  refine S_iconst dX16_go_67 rfl ?_
  refine P2_lai hM (a := 162) (n := 11) rfl dX16_go_68 h (fun v2 h => ?_)
  refine S_iadd dX16_go_69 ?_
  refine P2_sai hM (a := 202) (n := 1280) rfl dX16_go_70 h (fun V2 h => ?_)
  refine S_aload_n (i := 0) dX16_go_71 rfl rfl ?_
  refine S_iload_n (i := 1) dX16_go_72 rfl rfl ?_
  refine S_aload_n (i := 0) dX16_go_73 rfl rfl ?_
  refine P2_gfr hM (a := 199) FLX16_143 rfl ⟨rfl, rfl⟩ dX16_go_74 ?_
  refine S_iload_n (i := 2) dX16_go_77 rfl rfl ?_
  refine P2_lai hM (a := 199) (n := 1280) rfl dX16_go_78 h (fun v3 h => ?_)
  refine P2_invVm hM [(0, x1), (0, v3)] [] CVX16_send MLX16_556 dX16_go_79 rfl rfl rfl rfl (by omega) h (fun r h => F_X16_send (by omega) hM h) (fun V3 h => ?_)
  obtain rfl := r0 _ (some_P (P := fun r => P r) h hz)
  exact S_return dX16_go_82 rfl
theorem s_X16_go_12 {g : GG} {d : Nat} (hD : 3 ≤ d) {x1 x2 x3 : Int} {M : MM} (hM : LM M) {V : VV} {o : AV × MM} {P : ((Int × VV) ⊕ (VV)) → Prop} (c0 : ∀ s : Int × VV, P (.inl s) → Sem g d YX16_go 12 [(1, 156), (0, x1), (0, x2), (0, s.1)] [] (wr M s.2) o) (r0 : ∀ r : VV, P (.inr r) → o = ((9, 0), (wr M r))) {z : (Int × VV) ⊕ (VV)} (h : b_X16_go_12 x1 x2 x3 V = some z) (hz : P z) : Sem g d YX16_go 12 [(1, 156), (0, x1), (0, x2), (0, x3)] [] (wr M V) o := by
  delta b_X16_go_12 at h
  refine S_iload_n (i := 3) dX16_go_12 rfl rfl ?_
  refine S_aload_n (i := 0) dX16_go_13 rfl rfl ?_
  refine P2_gfi hM FLX16_470 rfl dX16_go_14 ?_
  refine P_icmp_ge (tgt := 44) dX16_go_17 rfl h (fun h => ?_) (fun h => ?_)
  · refine S_weak (ls' := [(1, 156), (0, x1), (0, x2), (9, 0)]) ⟨Or.inr rfl, ⟨Or.inr rfl, ⟨Or.inr rfl, ⟨Or.inl rfl, trivial⟩⟩⟩⟩ ?_
    obtain ⟨z0, h, hz⟩ := xit_some' (P := fun r => P r) h hz
    exact s_X16_go_44 hD hM (P := fun r => P (.inr r)) r0 h hz
  · refine S_aload_n (i := 0) dX16_go_20 rfl rfl ?_
    refine P2_gfr hM (a := 188) FLX16_107 rfl ⟨rfl, rfl⟩ dX16_go_21 ?_
    refine S_iload_n (i := 3) dX16_go_24 rfl rfl ?_
    refine S_aload_n (i := 0) dX16_go_25 rfl rfl ?_
    refine P2_gfr hM (a := 208) FLX16_171 rfl ⟨rfl, rfl⟩ dX16_go_26 ?_
    refine S_sipush (z := 350) dX16_go_29 rfl ?_
    refine S_iload_n (i := 2) dX16_go_32 rfl rfl ?_
    refine S_imul dX16_go_33 ?_
    refine S_iload_n (i := 3) dX16_go_34 rfl rfl ?_
    refine S_iadd dX16_go_35 ?_
    refine P2_lai hM (a := 208) (n := 448000) rfl dX16_go_36 h (fun v1 h => ?_)
    refine P2_sai hM (a := 188) (n := 460) rfl dX16_go_37 h (fun V1 h => ?_)
    refine S_iinc dX16_go_38 rfl rfl rfl ?_
    change Sem g d YX16_go 41 [(1, 156), (0, x1), (0, x2), (0, x3 + 1)] [] (wr M V1) o
    refine S_goto (tgt := 12) dX16_go_41 rfl ?_
    exact c0 (x3 + 1, V1) (some_P (P := fun r => P r) h hz)
theorem sl_X16_go_12 {g : GG} {d : Nat} (hD : 3 ≤ d) {x1 x2 x3 : Int} {M : MM} (hM : LM M) {V : VV} {o : AV × MM} {P : (VV) → Prop} (r0 : ∀ r : VV, P r → o = ((9, 0), (wr M r))) {z : VV} (h : l_X16_go_12 x1 x2 x3 V = some z) (hz : P z) : Sem g d YX16_go 12 [(1, 156), (0, x1), (0, x2), (0, x3)] [] (wr M V) o := by
  refine lp_sound (S := fun s : Int × VV => Sem g d YX16_go 12 [(1, 156), (0, x1), (0, x2), (0, s.1)] [] (wr M s.2) o) (P := P) ?_ FU (x3, V) z h hz
  intro s x hx hP
  exact s_X16_go_12 hD hM (P := Sum.elim (fun s : Int × VV => Sem g d YX16_go 12 [(1, 156), (0, x1), (0, x2), (0, s.1)] [] (wr M s.2) o) P) (fun s h => h) (fun s h => r0 s h) hx hP
theorem s_X16_go_0 {g : GG} {d : Nat} (hD : 3 ≤ d) {x1 x2 : Int} {M : MM} (hM : LM M) {V : VV} {o : AV × MM} {P : (VV) → Prop} (r0 : ∀ r : VV, P r → o = ((9, 0), (wr M r))) {z : VV} (h : f_X16_go x1 x2 V = some z) (hz : P z) : Sem g d YX16_go 0 [(1, 156), (0, x1), (0, x2), (9, 0)] [] (wr M V) o := by
  delta f_X16_go at h
  refine S_aload_n (i := 0) dX16_go_0 rfl rfl ?_
  refine S_aload_n (i := 0) dX16_go_1 rfl rfl ?_
  refine P2_gfr hM (a := 207) FLX16_167 rfl ⟨rfl, rfl⟩ dX16_go_2 ?_
  refine S_iload_n (i := 2) dX16_go_5 rfl rfl ?_
  refine P2_lai hM (a := 207) (n := 1280) rfl dX16_go_6 h (fun v1 h => ?_)
  refine P2_pfi hM FLX16_470 FPX16_470 rfl dX16_go_7 h (fun V1 h => ?_)
  refine S_iconst dX16_go_10 rfl ?_
  refine S_istore_n (i := 3) dX16_go_11 rfl (Nat.le_of_ble_eq_true rfl) rfl rfl ?_
  change Sem g d YX16_go 12 [(1, 156), (0, x1), (0, x2), (0, 0)] [] (wr M V1) o
  exact sl_X16_go_12 hD hM r0 h hz
theorem F_X16_go {g : GG} {d : Nat} (hD : 3 ≤ d) {x1 x2 : Int} {M : MM} (hM : LM M) {V : VV} {r : VV} (h : f_X16_go x1 x2 V = some r) : Sem g d YX16_go 0 (ini YX16_go [(1, 156), (0, x1), (0, x2)]) [] (wr M V) ((9, 0), (wr M r)) := by
  change Sem g d YX16_go 0 [(1, 156), (0, x1), (0, x2), (9, 0)] [] (wr M V) ((9, 0), (wr M r))
  exact s_X16_go_0 hD hM (P := fun x => x = r) (fun q e => by rw [e]) h rfl
/-! PeerSearchModel.keyOut([II)V -/
theorem dX16_keyOut_0 : decode cX16_keyOut 0 = .ok (.iconst 0, 1) := by decide +kernel
theorem dX16_keyOut_1 : decode cX16_keyOut 1 = .ok (.istore_n 3, 1) := by decide +kernel
theorem dX16_keyOut_2 : decode cX16_keyOut 2 = .ok (.iload_n 3, 1) := by decide +kernel
theorem dX16_keyOut_3 : decode cX16_keyOut 3 = .ok (.bipush 20, 2) := by decide +kernel
theorem dX16_keyOut_5 : decode cX16_keyOut 5 = .ok (.if_icmp .ge 30, 3) := by decide +kernel
theorem dX16_keyOut_8 : decode cX16_keyOut 8 = .ok (.aload_n 0, 1) := by decide +kernel
theorem dX16_keyOut_9 : decode cX16_keyOut 9 = .ok (.aload_n 1, 1) := by decide +kernel
theorem dX16_keyOut_10 : decode cX16_keyOut 10 = .ok (.iload_n 2, 1) := by decide +kernel
theorem dX16_keyOut_11 : decode cX16_keyOut 11 = .ok (.iload_n 3, 1) := by decide +kernel
theorem dX16_keyOut_12 : decode cX16_keyOut 12 = .ok (.iconst 4, 1) := by decide +kernel
theorem dX16_keyOut_13 : decode cX16_keyOut 13 = .ok (.idiv, 1) := by decide +kernel
theorem dX16_keyOut_14 : decode cX16_keyOut 14 = .ok (.iadd, 1) := by decide +kernel
theorem dX16_keyOut_15 : decode cX16_keyOut 15 = .ok (.iaload, 1) := by decide +kernel
theorem dX16_keyOut_16 : decode cX16_keyOut 16 = .ok (.bipush 24, 2) := by decide +kernel
theorem dX16_keyOut_18 : decode cX16_keyOut 18 = .ok (.bipush 8, 2) := by decide +kernel
theorem dX16_keyOut_20 : decode cX16_keyOut 20 = .ok (.iload_n 3, 1) := by decide +kernel
theorem dX16_keyOut_21 : decode cX16_keyOut 21 = .ok (.iconst 4, 1) := by decide +kernel
theorem dX16_keyOut_22 : decode cX16_keyOut 22 = .ok (.irem, 1) := by decide +kernel
theorem dX16_keyOut_23 : decode cX16_keyOut 23 = .ok (.imul, 1) := by decide +kernel
theorem dX16_keyOut_24 : decode cX16_keyOut 24 = .ok (.isub, 1) := by decide +kernel
theorem dX16_keyOut_25 : decode cX16_keyOut 25 = .ok (.ishr, 1) := by decide +kernel
theorem dX16_keyOut_26 : decode cX16_keyOut 26 = .ok (.invokevirtual 490, 3) := by decide +kernel
theorem dX16_keyOut_29 : decode cX16_keyOut 29 = .ok (.iinc 3 1, 3) := by decide +kernel
theorem dX16_keyOut_32 : decode cX16_keyOut 32 = .ok (.goto (-30), 3) := by decide +kernel
theorem dX16_keyOut_35 : decode cX16_keyOut 35 = .ok (.return_, 1) := by decide +kernel
def b_X16_keyOut_2 (x1 x2 x3 : Int) (V : VV) : Option ((Int × VV) ⊕ (VV)) :=
  if w32 x3 < w32 20 then
    (dvi x3 4).bind fun v1 =>
    (lp x1 (x2 + v1) V).bind fun v2 =>
    (rmi x3 4).bind fun v3 =>
    (f_X16_byteOut (bshr v2 (24 - (8 * v3))) V).bind fun V1 =>
    cnt (x3 + 1, V1)
  else
    xit (some V)
def l_X16_keyOut_2 (x1 x2 x3 : Int) (V : VV) : Option (VV) := lpN (fun s : Int × VV => b_X16_keyOut_2 x1 x2 s.1 s.2) FU (x3, V)
def f_X16_keyOut (x1 x2 : Int) (V : VV) : Option (VV) :=
  l_X16_keyOut_2 x1 x2 0 V
theorem s_X16_keyOut_2 {g : GG} {d : Nat} (hD : 1 ≤ d) {x1 x2 x3 : Int} {M : MM} (hM : LM M) {V : VV} {o : AV × MM} {P : ((Int × VV) ⊕ (VV)) → Prop} (c0 : ∀ s : Int × VV, P (.inl s) → Sem g d YX16_keyOut 2 [(1, 156), (1, x1), (0, x2), (0, s.1)] [] (wr M s.2) o) (r0 : ∀ r : VV, P (.inr r) → o = ((9, 0), (wr M r))) {z : (Int × VV) ⊕ (VV)} (h : b_X16_keyOut_2 x1 x2 x3 V = some z) (hz : P z) : Sem g d YX16_keyOut 2 [(1, 156), (1, x1), (0, x2), (0, x3)] [] (wr M V) o := by
  delta b_X16_keyOut_2 at h
  refine S_iload_n (i := 3) dX16_keyOut_2 rfl rfl ?_
  refine S_bipush (z := 20) dX16_keyOut_3 rfl ?_
  refine P_icmp_ge (tgt := 35) dX16_keyOut_5 rfl h (fun h => ?_) (fun h => ?_)
  · obtain ⟨z0, h, hz⟩ := xit_some' (P := fun r => P r) h hz
    obtain rfl := r0 _ (some_P (P := fun r => P (.inr r)) h hz)
    exact S_return dX16_keyOut_35 rfl
  · refine S_aload_n (i := 0) dX16_keyOut_8 rfl rfl ?_
    refine S_aload_n (i := 1) dX16_keyOut_9 rfl rfl ?_
    refine S_iload_n (i := 2) dX16_keyOut_10 rfl rfl ?_
    refine S_iload_n (i := 3) dX16_keyOut_11 rfl rfl ?_
    refine S_iconst dX16_keyOut_12 rfl ?_
    refine P_dvi dX16_keyOut_13 h (fun v1 h => ?_)
    refine S_iadd dX16_keyOut_14 ?_
    refine P2_lp hM dX16_keyOut_15 h (fun v2 h => ?_)
    refine S_bipush (z := 24) dX16_keyOut_16 rfl ?_
    refine S_bipush (z := 8) dX16_keyOut_18 rfl ?_
    refine S_iload_n (i := 3) dX16_keyOut_20 rfl rfl ?_
    refine S_iconst dX16_keyOut_21 rfl ?_
    refine P_rmi dX16_keyOut_22 h (fun v3 h => ?_)
    refine S_imul dX16_keyOut_23 ?_
    refine S_isub dX16_keyOut_24 ?_
    refine S_ishr dX16_keyOut_25 ?_
    refine P2_invVm hM [(0, bshr v2 (24 - (8 * v3)))] [] CVX16_byteOut MLX16_490 dX16_keyOut_26 rfl rfl rfl rfl (by omega) h (fun r h => F_X16_byteOut (by omega) hM h) (fun V1 h => ?_)
    refine S_iinc dX16_keyOut_29 rfl rfl rfl ?_
    change Sem g d YX16_keyOut 32 [(1, 156), (1, x1), (0, x2), (0, x3 + 1)] [] (wr M V1) o
    refine S_goto (tgt := 2) dX16_keyOut_32 rfl ?_
    exact c0 (x3 + 1, V1) (some_P (P := fun r => P r) h hz)
theorem sl_X16_keyOut_2 {g : GG} {d : Nat} (hD : 1 ≤ d) {x1 x2 x3 : Int} {M : MM} (hM : LM M) {V : VV} {o : AV × MM} {P : (VV) → Prop} (r0 : ∀ r : VV, P r → o = ((9, 0), (wr M r))) {z : VV} (h : l_X16_keyOut_2 x1 x2 x3 V = some z) (hz : P z) : Sem g d YX16_keyOut 2 [(1, 156), (1, x1), (0, x2), (0, x3)] [] (wr M V) o := by
  refine lp_sound (S := fun s : Int × VV => Sem g d YX16_keyOut 2 [(1, 156), (1, x1), (0, x2), (0, s.1)] [] (wr M s.2) o) (P := P) ?_ FU (x3, V) z h hz
  intro s x hx hP
  exact s_X16_keyOut_2 hD hM (P := Sum.elim (fun s : Int × VV => Sem g d YX16_keyOut 2 [(1, 156), (1, x1), (0, x2), (0, s.1)] [] (wr M s.2) o) P) (fun s h => h) (fun s h => r0 s h) hx hP
theorem s_X16_keyOut_0 {g : GG} {d : Nat} (hD : 1 ≤ d) {x1 x2 : Int} {M : MM} (hM : LM M) {V : VV} {o : AV × MM} {P : (VV) → Prop} (r0 : ∀ r : VV, P r → o = ((9, 0), (wr M r))) {z : VV} (h : f_X16_keyOut x1 x2 V = some z) (hz : P z) : Sem g d YX16_keyOut 0 [(1, 156), (1, x1), (0, x2), (9, 0)] [] (wr M V) o := by
  delta f_X16_keyOut at h
  refine S_iconst dX16_keyOut_0 rfl ?_
  refine S_istore_n (i := 3) dX16_keyOut_1 rfl (Nat.le_of_ble_eq_true rfl) rfl rfl ?_
  change Sem g d YX16_keyOut 2 [(1, 156), (1, x1), (0, x2), (0, 0)] [] (wr M V) o
  exact sl_X16_keyOut_2 hD hM r0 h hz
theorem F_X16_keyOut {g : GG} {d : Nat} (hD : 1 ≤ d) {x1 x2 : Int} {M : MM} (hM : LM M) {V : VV} {r : VV} (h : f_X16_keyOut x1 x2 V = some r) : Sem g d YX16_keyOut 0 (ini YX16_keyOut [(1, 156), (1, x1), (0, x2)]) [] (wr M V) ((9, 0), (wr M r)) := by
  change Sem g d YX16_keyOut 0 [(1, 156), (1, x1), (0, x2), (9, 0)] [] (wr M V) ((9, 0), (wr M r))
  exact s_X16_keyOut_0 hD hM (P := fun x => x = r) (fun q e => by rw [e]) h rfl
/-! PeerSearchModel.head(III)V -/
theorem dX16_head_0 : decode cX16_head 0 = .ok (.aload_n 0, 1) := by decide +kernel
theorem dX16_head_1 : decode cX16_head 1 = .ok (.iconst 0, 1) := by decide +kernel
theorem dX16_head_2 : decode cX16_head 2 = .ok (.putfield 470, 3) := by decide +kernel
theorem dX16_head_5 : decode cX16_head 5 = .ok (.aload_n 0, 1) := by decide +kernel
theorem dX16_head_6 : decode cX16_head 6 = .ok (.iload_n 2, 1) := by decide +kernel
theorem dX16_head_7 : decode cX16_head 7 = .ok (.invokevirtual 490, 3) := by decide +kernel
theorem dX16_head_10 : decode cX16_head 10 = .ok (.bipush 24, 2) := by decide +kernel
theorem dX16_head_12 : decode cX16_head 12 = .ok (.istore 4, 2) := by decide +kernel
theorem dX16_head_14 : decode cX16_head 14 = .ok (.iload 4, 2) := by decide +kernel
theorem dX16_head_16 : decode cX16_head 16 = .ok (.ifCond .lt 17, 3) := by decide +kernel
theorem dX16_head_19 : decode cX16_head 19 = .ok (.aload_n 0, 1) := by decide +kernel
theorem dX16_head_20 : decode cX16_head 20 = .ok (.iload_n 3, 1) := by decide +kernel
theorem dX16_head_21 : decode cX16_head 21 = .ok (.iload 4, 2) := by decide +kernel
theorem dX16_head_23 : decode cX16_head 23 = .ok (.ishr, 1) := by decide +kernel
theorem dX16_head_24 : decode cX16_head 24 = .ok (.invokevirtual 490, 3) := by decide +kernel
theorem dX16_head_27 : decode cX16_head 27 = .ok (.iinc 4 (-8), 3) := by decide +kernel
theorem dX16_head_30 : decode cX16_head 30 = .ok (.goto (-16), 3) := by decide +kernel
theorem dX16_head_33 : decode cX16_head 33 = .ok (.aload_n 0, 1) := by decide +kernel
theorem dX16_head_34 : decode cX16_head 34 = .ok (.aload_n 0, 1) := by decide +kernel
theorem dX16_head_35 : decode cX16_head 35 = .ok (.getfield 36, 3) := by decide +kernel
theorem dX16_head_38 : decode cX16_head 38 = .ok (.iconst 5, 1) := by decide +kernel
theorem dX16_head_39 : decode cX16_head 39 = .ok (.iload_n 1, 1) := by decide +kernel
theorem dX16_head_40 : decode cX16_head 40 = .ok (.imul, 1) := by decide +kernel
theorem dX16_head_41 : decode cX16_head 41 = .ok (.invokevirtual 493, 3) := by decide +kernel
theorem dX16_head_44 : decode cX16_head 44 = .ok (.return_, 1) := by decide +kernel
def j_X16_head_33 (x1 : Int) (V : VV) : Option (VV) :=
  (f_X16_keyOut 165 (5 * x1) V).bind fun V1 =>
  some V1
def b_X16_head_14 (x1 x3 x4 : Int) (V : VV) : Option ((Int × VV) ⊕ (VV)) :=
  if w32 x4 < 0 then
    xit (j_X16_head_33 x1 V)
  else
    (f_X16_byteOut (bshr x3 x4) V).bind fun V1 =>
    cnt (x4 + (-8), V1)
def l_X16_head_14 (x1 x3 x4 : Int) (V : VV) : Option (VV) := lpN (fun s : Int × VV => b_X16_head_14 x1 x3 s.1 s.2) FU (x4, V)
def f_X16_head (x1 x2 x3 : Int) (V : VV) : Option (VV) :=
  (p2 41 0 V).bind fun V1 =>
  (f_X16_byteOut x2 V1).bind fun V2 =>
  l_X16_head_14 x1 x3 24 V2
theorem s_X16_head_33 {g : GG} {d : Nat} (hD : 2 ≤ d) {x1 : Int} {M : MM} (hM : LM M) {V : VV} {o : AV × MM} {P : (VV) → Prop} (r0 : ∀ r : VV, P r → o = ((9, 0), (wr M r))) {z : VV} (h : j_X16_head_33 x1 V = some z) (hz : P z) : Sem g d YX16_head 33 [(1, 156), (0, x1), (9, 0), (9, 0), (9, 0)] [] (wr M V) o := by
  delta j_X16_head_33 at h
  refine S_aload_n (i := 0) dX16_head_33 rfl rfl ?_
  refine S_aload_n (i := 0) dX16_head_34 rfl rfl ?_
  refine P2_gfr hM (a := 165) FLX16_36 rfl ⟨rfl, rfl⟩ dX16_head_35 ?_
  refine S_iconst dX16_head_38 rfl ?_
  refine S_iload_n (i := 1) dX16_head_39 rfl rfl ?_
  refine S_imul dX16_head_40 ?_
  refine P2_invVm hM [(1, 165), (0, 5 * x1)] [] CVX16_keyOut MLX16_493 dX16_head_41 rfl rfl rfl rfl (by omega) h (fun r h => F_X16_keyOut (by omega) hM h) (fun V1 h => ?_)
  obtain rfl := r0 _ (some_P (P := fun r => P r) h hz)
  exact S_return dX16_head_44 rfl
theorem s_X16_head_14 {g : GG} {d : Nat} (hD : 2 ≤ d) {x1 x3 x4 : Int} {M : MM} (hM : LM M) {V : VV} {o : AV × MM} {P : ((Int × VV) ⊕ (VV)) → Prop} (c0 : ∀ s : Int × VV, P (.inl s) → Sem g d YX16_head 14 [(1, 156), (0, x1), (9, 0), (0, x3), (0, s.1)] [] (wr M s.2) o) (r0 : ∀ r : VV, P (.inr r) → o = ((9, 0), (wr M r))) {z : (Int × VV) ⊕ (VV)} (h : b_X16_head_14 x1 x3 x4 V = some z) (hz : P z) : Sem g d YX16_head 14 [(1, 156), (0, x1), (9, 0), (0, x3), (0, x4)] [] (wr M V) o := by
  delta b_X16_head_14 at h
  refine S_iload dX16_head_14 rfl ?_
  refine P_if_lt (tgt := 33) dX16_head_16 rfl h (fun h => ?_) (fun h => ?_)
  · refine S_weak (ls' := [(1, 156), (0, x1), (9, 0), (9, 0), (9, 0)]) ⟨Or.inr rfl, ⟨Or.inr rfl, ⟨Or.inl rfl, ⟨Or.inl rfl, ⟨Or.inl rfl, trivial⟩⟩⟩⟩⟩ ?_
    obtain ⟨z0, h, hz⟩ := xit_some' (P := fun r => P r) h hz
    exact s_X16_head_33 hD hM (P := fun r => P (.inr r)) r0 h hz
  · refine S_aload_n (i := 0) dX16_head_19 rfl rfl ?_
    refine S_iload_n (i := 3) dX16_head_20 rfl rfl ?_
    refine S_iload dX16_head_21 rfl ?_
    refine S_ishr dX16_head_23 ?_
    refine P2_invVm hM [(0, bshr x3 x4)] [] CVX16_byteOut MLX16_490 dX16_head_24 rfl rfl rfl rfl (by omega) h (fun r h => F_X16_byteOut (by omega) hM h) (fun V1 h => ?_)
    refine S_iinc dX16_head_27 rfl rfl rfl ?_
    change Sem g d YX16_head 30 [(1, 156), (0, x1), (9, 0), (0, x3), (0, x4 + (-8))] [] (wr M V1) o
    refine S_goto (tgt := 14) dX16_head_30 rfl ?_
    exact c0 (x4 + (-8), V1) (some_P (P := fun r => P r) h hz)
theorem sl_X16_head_14 {g : GG} {d : Nat} (hD : 2 ≤ d) {x1 x3 x4 : Int} {M : MM} (hM : LM M) {V : VV} {o : AV × MM} {P : (VV) → Prop} (r0 : ∀ r : VV, P r → o = ((9, 0), (wr M r))) {z : VV} (h : l_X16_head_14 x1 x3 x4 V = some z) (hz : P z) : Sem g d YX16_head 14 [(1, 156), (0, x1), (9, 0), (0, x3), (0, x4)] [] (wr M V) o := by
  refine lp_sound (S := fun s : Int × VV => Sem g d YX16_head 14 [(1, 156), (0, x1), (9, 0), (0, x3), (0, s.1)] [] (wr M s.2) o) (P := P) ?_ FU (x4, V) z h hz
  intro s x hx hP
  exact s_X16_head_14 hD hM (P := Sum.elim (fun s : Int × VV => Sem g d YX16_head 14 [(1, 156), (0, x1), (9, 0), (0, x3), (0, s.1)] [] (wr M s.2) o) P) (fun s h => h) (fun s h => r0 s h) hx hP
theorem s_X16_head_0 {g : GG} {d : Nat} (hD : 2 ≤ d) {x1 x2 x3 : Int} {M : MM} (hM : LM M) {V : VV} {o : AV × MM} {P : (VV) → Prop} (r0 : ∀ r : VV, P r → o = ((9, 0), (wr M r))) {z : VV} (h : f_X16_head x1 x2 x3 V = some z) (hz : P z) : Sem g d YX16_head 0 [(1, 156), (0, x1), (0, x2), (0, x3), (9, 0)] [] (wr M V) o := by
  delta f_X16_head at h
  refine S_aload_n (i := 0) dX16_head_0 rfl rfl ?_
  refine S_iconst dX16_head_1 rfl ?_
  refine P2_pfi hM FLX16_470 FPX16_470 rfl dX16_head_2 h (fun V1 h => ?_)
  refine S_aload_n (i := 0) dX16_head_5 rfl rfl ?_
  refine S_iload_n (i := 2) dX16_head_6 rfl rfl ?_
  refine P2_invVm hM [(0, x2)] [] CVX16_byteOut MLX16_490 dX16_head_7 rfl rfl rfl rfl (by omega) h (fun r h => F_X16_byteOut (by omega) hM h) (fun V2 h => ?_)
  refine S_bipush (z := 24) dX16_head_10 rfl ?_
  refine S_istore dX16_head_12 (Nat.le_of_ble_eq_true rfl) rfl rfl ?_
  change Sem g d YX16_head 14 [(1, 156), (0, x1), (0, x2), (0, x3), (0, 24)] [] (wr M V2) o
  refine S_weak (ls' := [(1, 156), (0, x1), (9, 0), (0, x3), (0, 24)]) ⟨Or.inr rfl, ⟨Or.inr rfl, ⟨Or.inl rfl, ⟨Or.inr rfl, ⟨Or.inr rfl, trivial⟩⟩⟩⟩⟩ ?_
  exact sl_X16_head_14 hD hM r0 h hz
theorem F_X16_head {g : GG} {d : Nat} (hD : 2 ≤ d) {x1 x2 x3 : Int} {M : MM} (hM : LM M) {V : VV} {r : VV} (h : f_X16_head x1 x2 x3 V = some r) : Sem g d YX16_head 0 (ini YX16_head [(1, 156), (0, x1), (0, x2), (0, x3)]) [] (wr M V) ((9, 0), (wr M r)) := by
  change Sem g d YX16_head 0 [(1, 156), (0, x1), (0, x2), (0, x3), (9, 0)] [] (wr M V) ((9, 0), (wr M r))
  exact s_X16_head_0 hD hM (P := fun x => x = r) (fun q e => by rw [e]) h rfl
/-! PeerSearchModel.ask(II[IIIII)Z -/
theorem dX16_ask_0 : decode cX16_ask 0 = .ok (.bipush 40, 2) := by decide +kernel
theorem dX16_ask_2 : decode cX16_ask 2 = .ok (.iload_n 1, 1) := by decide +kernel
theorem dX16_ask_3 : decode cX16_ask 3 = .ok (.imul, 1) := by decide +kernel
theorem dX16_ask_4 : decode cX16_ask 4 = .ok (.istore 8, 2) := by decide +kernel
theorem dX16_ask_6 : decode cX16_ask 6 = .ok (.iload 8, 2) := by decide +kernel
theorem dX16_ask_8 : decode cX16_ask 8 = .ok (.bipush 40, 2) := by decide +kernel
theorem dX16_ask_10 : decode cX16_ask 10 = .ok (.iload_n 1, 1) := by decide +kernel
theorem dX16_ask_11 : decode cX16_ask 11 = .ok (.imul, 1) := by decide +kernel
theorem dX16_ask_12 : decode cX16_ask 12 = .ok (.bipush 40, 2) := by decide +kernel
theorem dX16_ask_14 : decode cX16_ask 14 = .ok (.iadd, 1) := by decide +kernel
theorem dX16_ask_15 : decode cX16_ask 15 = .ok (.if_icmp .ge 31, 3) := by decide +kernel
theorem dX16_ask_18 : decode cX16_ask 18 = .ok (.aload_n 0, 1) := by decide +kernel
theorem dX16_ask_19 : decode cX16_ask 19 = .ok (.getfield 137, 3) := by decide +kernel
theorem dX16_ask_22 : decode cX16_ask 22 = .ok (.iload 8, 2) := by decide +kernel
theorem dX16_ask_24 : decode cX16_ask 24 = .ok (.sipush 1280, 3) := by decide +kernel
theorem dX16_ask_27 : decode cX16_ask 27 = .ok (.if_icmp .ge 8, 3) := by decide +kernel
theorem dX16_ask_30 : decode cX16_ask 30 = .ok (.iload 8, 2) := by decide +kernel
theorem dX16_ask_32 : decode cX16_ask 32 = .ok (.goto 4, 3) := by decide +kernel
theorem dX16_ask_35 : decode cX16_ask 35 = .ok (.iconst 0, 1) := by decide +kernel
theorem dX16_ask_36 : decode cX16_ask 36 = .ok (.baload, 1) := by decide +kernel
theorem dX16_ask_37 : decode cX16_ask 37 = .ok (.ifCond .eq 9, 3) := by decide +kernel
theorem dX16_ask_40 : decode cX16_ask 40 = .ok (.iinc 8 1, 3) := by decide +kernel
theorem dX16_ask_43 : decode cX16_ask 43 = .ok (.goto (-37), 3) := by decide +kernel
theorem dX16_ask_46 : decode cX16_ask 46 = .ok (.iload 8, 2) := by decide +kernel
theorem dX16_ask_48 : decode cX16_ask 48 = .ok (.bipush 40, 2) := by decide +kernel
theorem dX16_ask_50 : decode cX16_ask 50 = .ok (.iload_n 1, 1) := by decide +kernel
theorem dX16_ask_51 : decode cX16_ask 51 = .ok (.imul, 1) := by decide +kernel
theorem dX16_ask_52 : decode cX16_ask 52 = .ok (.bipush 40, 2) := by decide +kernel
theorem dX16_ask_54 : decode cX16_ask 54 = .ok (.iadd, 1) := by decide +kernel
theorem dX16_ask_55 : decode cX16_ask 55 = .ok (.if_icmp .ne 5, 3) := by decide +kernel
theorem dX16_ask_58 : decode cX16_ask 58 = .ok (.iconst 0, 1) := by decide +kernel
theorem dX16_ask_59 : decode cX16_ask 59 = .ok (.ireturn, 1) := by decide +kernel
theorem dX16_ask_60 : decode cX16_ask 60 = .ok (.aload_n 0, 1) := by decide +kernel
theorem dX16_ask_61 : decode cX16_ask 61 = .ok (.getfield 137, 3) := by decide +kernel
theorem dX16_ask_64 : decode cX16_ask 64 = .ok (.iload 8, 2) := by decide +kernel
theorem dX16_ask_66 : decode cX16_ask 66 = .ok (.iconst 1, 1) := by decide +kernel
theorem dX16_ask_67 : decode cX16_ask 67 = .ok (.bastore, 1) := by decide +kernel
theorem dX16_ask_68 : decode cX16_ask 68 = .ok (.aload_n 0, 1) := by decide +kernel
theorem dX16_ask_69 : decode cX16_ask 69 = .ok (.getfield 140, 3) := by decide +kernel
theorem dX16_ask_72 : decode cX16_ask 72 = .ok (.iload 8, 2) := by decide +kernel
theorem dX16_ask_74 : decode cX16_ask 74 = .ok (.aload_n 0, 1) := by decide +kernel
theorem dX16_ask_75 : decode cX16_ask 75 = .ok (.getfield 54, 3) := by decide +kernel
theorem dX16_ask_78 : decode cX16_ask 78 = .ok (.iload_n 1, 1) := by decide +kernel
theorem dX16_ask_79 : decode cX16_ask 79 = .ok (.iaload, 1) := by decide +kernel
theorem dX16_ask_80 : decode cX16_ask 80 = .ok (.iastore, 1) := by decide +kernel
theorem dX16_ask_81 : decode cX16_ask 81 = .ok (.aload_n 0, 1) := by decide +kernel
theorem dX16_ask_82 : decode cX16_ask 82 = .ok (.getfield 54, 3) := by decide +kernel
theorem dX16_ask_85 : decode cX16_ask 85 = .ok (.iload_n 1, 1) := by decide +kernel
theorem dX16_ask_86 : decode cX16_ask 86 = .ok (.dup2, 1) := by decide +kernel
theorem dX16_ask_87 : decode cX16_ask 87 = .ok (.iaload, 1) := by decide +kernel
theorem dX16_ask_88 : decode cX16_ask 88 = .ok (.iconst 1, 1) := by decide +kernel
theorem dX16_ask_89 : decode cX16_ask 89 = .ok (.iadd, 1) := by decide +kernel
theorem dX16_ask_90 : decode cX16_ask 90 = .ok (.iastore, 1) := by decide +kernel
theorem dX16_ask_91 : decode cX16_ask 91 = .ok (.aload_n 0, 1) := by decide +kernel
theorem dX16_ask_92 : decode cX16_ask 92 = .ok (.getfield 143, 3) := by decide +kernel
theorem dX16_ask_95 : decode cX16_ask 95 = .ok (.iload 8, 2) := by decide +kernel
theorem dX16_ask_97 : decode cX16_ask 97 = .ok (.iload_n 2, 1) := by decide +kernel
theorem dX16_ask_98 : decode cX16_ask 98 = .ok (.iastore, 1) := by decide +kernel
theorem dX16_ask_99 : decode cX16_ask 99 = .ok (.aload_n 0, 1) := by decide +kernel
theorem dX16_ask_100 : decode cX16_ask 100 = .ok (.getfield 146, 3) := by decide +kernel
theorem dX16_ask_103 : decode cX16_ask 103 = .ok (.iconst 5, 1) := by decide +kernel
theorem dX16_ask_104 : decode cX16_ask 104 = .ok (.iload 8, 2) := by decide +kernel
theorem dX16_ask_106 : decode cX16_ask 106 = .ok (.imul, 1) := by decide +kernel
theorem dX16_ask_107 : decode cX16_ask 107 = .ok (.aload_n 3, 1) := by decide +kernel
theorem dX16_ask_108 : decode cX16_ask 108 = .ok (.iload 4, 2) := by decide +kernel
theorem dX16_ask_110 : decode cX16_ask 110 = .ok (.invokestatic 438, 3) := by decide +kernel
theorem dX16_ask_113 : decode cX16_ask 113 = .ok (.aload_n 0, 1) := by decide +kernel
theorem dX16_ask_114 : decode cX16_ask 114 = .ok (.getfield 149, 3) := by decide +kernel
theorem dX16_ask_117 : decode cX16_ask 117 = .ok (.iload 8, 2) := by decide +kernel
theorem dX16_ask_119 : decode cX16_ask 119 = .ok (.iload 5, 2) := by decide +kernel
theorem dX16_ask_121 : decode cX16_ask 121 = .ok (.iastore, 1) := by decide +kernel
theorem dX16_ask_122 : decode cX16_ask 122 = .ok (.aload_n 0, 1) := by decide +kernel
theorem dX16_ask_123 : decode cX16_ask 123 = .ok (.getfield 158, 3) := by decide +kernel
theorem dX16_ask_126 : decode cX16_ask 126 = .ok (.iload 8, 2) := by decide +kernel
theorem dX16_ask_128 : decode cX16_ask 128 = .ok (.iload 6, 2) := by decide +kernel
theorem dX16_ask_130 : decode cX16_ask 130 = .ok (.iastore, 1) := by decide +kernel
theorem dX16_ask_131 : decode cX16_ask 131 = .ok (.aload_n 0, 1) := by decide +kernel
theorem dX16_ask_132 : decode cX16_ask 132 = .ok (.getfield 161, 3) := by decide +kernel
theorem dX16_ask_135 : decode cX16_ask 135 = .ok (.iload 8, 2) := by decide +kernel
theorem dX16_ask_137 : decode cX16_ask 137 = .ok (.iload 6, 2) := by decide +kernel
theorem dX16_ask_139 : decode cX16_ask 139 = .ok (.ifCond .lt 22, 3) := by decide +kernel
theorem dX16_ask_142 : decode cX16_ask 142 = .ok (.aload_n 0, 1) := by decide +kernel
theorem dX16_ask_143 : decode cX16_ask 143 = .ok (.getfield 240, 3) := by decide +kernel
theorem dX16_ask_146 : decode cX16_ask 146 = .ok (.iload 6, 2) := by decide +kernel
theorem dX16_ask_148 : decode cX16_ask 148 = .ok (.ifCond .ge 7, 3) := by decide +kernel
theorem dX16_ask_151 : decode cX16_ask 151 = .ok (.iconst 0, 1) := by decide +kernel
theorem dX16_ask_152 : decode cX16_ask 152 = .ok (.goto 5, 3) := by decide +kernel
theorem dX16_ask_155 : decode cX16_ask 155 = .ok (.iload 6, 2) := by decide +kernel
theorem dX16_ask_157 : decode cX16_ask 157 = .ok (.iaload, 1) := by decide +kernel
theorem dX16_ask_158 : decode cX16_ask 158 = .ok (.goto 4, 3) := by decide +kernel
theorem dX16_ask_161 : decode cX16_ask 161 = .ok (.iconst 0, 1) := by decide +kernel
theorem dX16_ask_162 : decode cX16_ask 162 = .ok (.iastore, 1) := by decide +kernel
theorem dX16_ask_163 : decode cX16_ask 163 = .ok (.aload_n 0, 1) := by decide +kernel
theorem dX16_ask_164 : decode cX16_ask 164 = .ok (.getfield 164, 3) := by decide +kernel
theorem dX16_ask_167 : decode cX16_ask 167 = .ok (.iload 8, 2) := by decide +kernel
theorem dX16_ask_169 : decode cX16_ask 169 = .ok (.iload 7, 2) := by decide +kernel
theorem dX16_ask_171 : decode cX16_ask 171 = .ok (.iastore, 1) := by decide +kernel
theorem dX16_ask_172 : decode cX16_ask 172 = .ok (.aload_n 0, 1) := by decide +kernel
theorem dX16_ask_173 : decode cX16_ask 173 = .ok (.getfield 155, 3) := by decide +kernel
theorem dX16_ask_176 : decode cX16_ask 176 = .ok (.iload 8, 2) := by decide +kernel
theorem dX16_ask_178 : decode cX16_ask 178 = .ok (.iconst 0, 1) := by decide +kernel
theorem dX16_ask_179 : decode cX16_ask 179 = .ok (.iastore, 1) := by decide +kernel
theorem dX16_ask_180 : decode cX16_ask 180 = .ok (.aload_n 0, 1) := by decide +kernel
theorem dX16_ask_181 : decode cX16_ask 181 = .ok (.iload_n 1, 1) := by decide +kernel
theorem dX16_ask_182 : decode cX16_ask 182 = .ok (.iload 5, 2) := by decide +kernel
theorem dX16_ask_184 : decode cX16_ask 184 = .ok (.aload_n 0, 1) := by decide +kernel
theorem dX16_ask_185 : decode cX16_ask 185 = .ok (.getfield 140, 3) := by decide +kernel
theorem dX16_ask_188 : decode cX16_ask 188 = .ok (.iload 8, 2) := by decide +kernel
theorem dX16_ask_190 : decode cX16_ask 190 = .ok (.iaload, 1) := by decide +kernel
theorem dX16_ask_191 : decode cX16_ask 191 = .ok (.invokevirtual 550, 3) := by decide +kernel
theorem dX16_ask_194 : decode cX16_ask 194 = .ok (.iconst 0, 1) := by decide +kernel
theorem dX16_ask_195 : decode cX16_ask 195 = .ok (.istore 9, 2) := by decide +kernel
theorem dX16_ask_197 : decode cX16_ask 197 = .ok (.iload 5, 2) := by decide +kernel
theorem dX16_ask_199 : decode cX16_ask 199 = .ok (.iconst 1, 1) := by decide +kernel
theorem dX16_ask_200 : decode cX16_ask 200 = .ok (.if_icmp .eq 29, 3) := by decide +kernel
theorem dX16_ask_203 : decode cX16_ask 203 = .ok (.iload 9, 2) := by decide +kernel
theorem dX16_ask_205 : decode cX16_ask 205 = .ok (.aload_n 0, 1) := by decide +kernel
theorem dX16_ask_206 : decode cX16_ask 206 = .ok (.getfield 544, 3) := by decide +kernel
theorem dX16_ask_209 : decode cX16_ask 209 = .ok (.if_icmp .ge 20, 3) := by decide +kernel
theorem dX16_ask_212 : decode cX16_ask 212 = .ok (.aload_n 0, 1) := by decide +kernel
theorem dX16_ask_213 : decode cX16_ask 213 = .ok (.aload_n 0, 1) := by decide +kernel
theorem dX16_ask_214 : decode cX16_ask 214 = .ok (.getfield 174, 3) := by decide +kernel
theorem dX16_ask_217 : decode cX16_ask 217 = .ok (.iload 9, 2) := by decide +kernel
theorem dX16_ask_219 : decode cX16_ask 219 = .ok (.iaload, 1) := by decide +kernel
theorem dX16_ask_220 : decode cX16_ask 220 = .ok (.invokevirtual 490, 3) := by decide +kernel
theorem dX16_ask_223 : decode cX16_ask 223 = .ok (.iinc 9 1, 3) := by decide +kernel
theorem dX16_ask_226 : decode cX16_ask 226 = .ok (.goto (-29), 3) := by decide +kernel
theorem dX16_ask_229 : decode cX16_ask 229 = .ok (.aload_n 0, 1) := by decide +kernel
theorem dX16_ask_230 : decode cX16_ask 230 = .ok (.getfield 167, 3) := by decide +kernel
theorem dX16_ask_233 : decode cX16_ask 233 = .ok (.iload 8, 2) := by decide +kernel
theorem dX16_ask_235 : decode cX16_ask 235 = .ok (.aload_n 0, 1) := by decide +kernel
theorem dX16_ask_236 : decode cX16_ask 236 = .ok (.getfield 470, 3) := by decide +kernel
theorem dX16_ask_239 : decode cX16_ask 239 = .ok (.iastore, 1) := by decide +kernel
theorem dX16_ask_240 : decode cX16_ask 240 = .ok (.iconst 0, 1) := by decide +kernel
theorem dX16_ask_241 : decode cX16_ask 241 = .ok (.istore 9, 2) := by decide +kernel
theorem dX16_ask_243 : decode cX16_ask 243 = .ok (.iload 9, 2) := by decide +kernel
theorem dX16_ask_245 : decode cX16_ask 245 = .ok (.aload_n 0, 1) := by decide +kernel
theorem dX16_ask_246 : decode cX16_ask 246 = .ok (.getfield 470, 3) := by decide +kernel
theorem dX16_ask_249 : decode cX16_ask 249 = .ok (.if_icmp .ge 30, 3) := by decide +kernel
theorem dX16_ask_252 : decode cX16_ask 252 = .ok (.aload_n 0, 1) := by decide +kernel
theorem dX16_ask_253 : decode cX16_ask 253 = .ok (.getfield 171, 3) := by decide +kernel
theorem dX16_ask_256 : decode cX16_ask 256 = .ok (.sipush 350, 3) := by decide +kernel
theorem dX16_ask_259 : decode cX16_ask 259 = .ok (.iload 8, 2) := by decide +kernel
theorem dX16_ask_261 : decode cX16_ask 261 = .ok (.imul, 1) := by decide +kernel
theorem dX16_ask_262 : decode cX16_ask 262 = .ok (.iload 9, 2) := by decide +kernel
theorem dX16_ask_264 : decode cX16_ask 264 = .ok (.iadd, 1) := by decide +kernel
theorem dX16_ask_265 : decode cX16_ask 265 = .ok (.aload_n 0, 1) := by decide +kernel
theorem dX16_ask_266 : decode cX16_ask 266 = .ok (.getfield 107, 3) := by decide +kernel
theorem dX16_ask_269 : decode cX16_ask 269 = .ok (.iload 9, 2) := by decide +kernel
theorem dX16_ask_271 : decode cX16_ask 271 = .ok (.iaload, 1) := by decide +kernel
theorem dX16_ask_272 : decode cX16_ask 272 = .ok (.iastore, 1) := by decide +kernel
theorem dX16_ask_273 : decode cX16_ask 273 = .ok (.iinc 9 1, 3) := by decide +kernel
theorem dX16_ask_276 : decode cX16_ask 276 = .ok (.goto (-33), 3) := by decide +kernel
theorem dX16_ask_279 : decode cX16_ask 279 = .ok (.aload_n 0, 1) := by decide +kernel
theorem dX16_ask_280 : decode cX16_ask 280 = .ok (.iload_n 1, 1) := by decide +kernel
theorem dX16_ask_281 : decode cX16_ask 281 = .ok (.iload 8, 2) := by decide +kernel
theorem dX16_ask_283 : decode cX16_ask 283 = .ok (.invokevirtual 553, 3) := by decide +kernel
theorem dX16_ask_286 : decode cX16_ask 286 = .ok (.iconst 1, 1) := by decide +kernel
theorem dX16_ask_287 : decode cX16_ask 287 = .ok (.ireturn, 1) := by decide +kernel
def j_X16_ask_279 (x1 x8 : Int) (V : VV) : Option (Int × VV) :=
  (f_X16_go x1 x8 V).bind fun V1 =>
  some (1, V1)
def b_X16_ask_243 (x1 x8 x9 : Int) (V : VV) : Option ((Int × VV) ⊕ (Int × VV)) :=
  if w32 x9 < w32 (w32 (V 156 41)) then
    (l2 188 460 x9 V).bind fun v1 =>
    (s2 208 448000 ((350 * x8) + x9) v1 V).bind fun V1 =>
    cnt (x9 + 1, V1)
  else
    xit (j_X16_ask_279 x1 x8 V)
def l_X16_ask_243 (x1 x8 x9 : Int) (V : VV) : Option (Int × VV) := lpN (fun s : Int × VV => b_X16_ask_243 x1 x8 s.1 s.2) FU (x9, V)
def j_X16_ask_229 (x1 x8 : Int) (V : VV) : Option (Int × VV) :=
  (s2 207 1280 x8 (w32 (V 156 41)) V).bind fun V1 =>
  l_X16_ask_243 x1 x8 0 V1
def b_X16_ask_197 (x1 x5 x8 x9 : Int) (V : VV) : Option ((Int × VV) ⊕ (Int × VV)) :=
  if w32 x5 = w32 1 then
    xit (j_X16_ask_229 x1 x8 V)
  else
    if w32 x9 < w32 (w32 (V 156 64)) then
      (l2 209 325 x9 V).bind fun v1 =>
      (f_X16_byteOut v1 V).bind fun V1 =>
      cnt (x9 + 1, V1)
    else
      xit (j_X16_ask_229 x1 x8 V)
def l_X16_ask_197 (x1 x5 x8 x9 : Int) (V : VV) : Option (Int × VV) := lpN (fun s : Int × VV => b_X16_ask_197 x1 x5 x8 s.1 s.2) FU (x9, V)
def j_X16_ask_162 (x1 x5 x7 x8 y1 y2 : Int) (V : VV) : Option (Int × VV) :=
  (s2 205 1280 y1 y2 V).bind fun V1 =>
  (s2 206 1280 x8 x7 V1).bind fun V2 =>
  (s2 203 1280 x8 0 V2).bind fun V3 =>
  (l2 198 1280 x8 V3).bind fun v1 =>
  (f_X16_head x1 x5 v1 V3).bind fun V4 =>
  l_X16_ask_197 x1 x5 x8 0 V4
def j_X16_ask_157 (x1 x5 x7 x8 y1 y3 : Int) (V : VV) : Option (Int × VV) :=
  (l2 231 44 y3 V).bind fun v1 =>
  j_X16_ask_162 x1 x5 x7 x8 y1 v1 V
def j_X16_ask_46 (x1 x2 x3 x4 x5 x6 x7 x8 : Int) (V : VV) : Option (Int × VV) :=
  if w32 x8 = w32 ((40 * x1) + 40) then
    some (0, V)
  else
    (s2z 197 1280 x8 1 V).bind fun V1 =>
    (l2 171 32 x1 V1).bind fun v1 =>
    (s2 198 1280 x8 v1 V1).bind fun V2 =>
    (l2 171 32 x1 V2).bind fun v2 =>
    (s2 171 32 x1 (v2 + 1) V2).bind fun V3 =>
    (s2 199 1280 x8 x2 V3).bind fun V4 =>
    (f_X16_put 200 (5 * x8) x3 x4 V4).bind fun V5 =>
    (s2 201 1280 x8 x5 V5).bind fun V6 =>
    (s2 204 1280 x8 x6 V6).bind fun V7 =>
    if w32 x6 < 0 then
      j_X16_ask_162 x1 x5 x7 x8 x8 0 V7
    else
      if w32 x6 < 0 then
        j_X16_ask_157 x1 x5 x7 x8 x8 0 V7
      else
        j_X16_ask_157 x1 x5 x7 x8 x8 x6 V7
def j_X16_ask_36 (x1 x2 x3 x4 x5 x6 x7 x8 y1 : Int) (V : VV) : Option ((Int) ⊕ (Int × VV)) :=
  (l2 197 1280 y1 V).bind fun v1 =>
  if w32 v1 = 0 then
    xit (j_X16_ask_46 x1 x2 x3 x4 x5 x6 x7 x8 V)
  else
    cnt (x8 + 1)
def b_X16_ask_6 (x1 x2 x3 x4 x5 x6 x7 x8 : Int) (V : VV) : Option ((Int) ⊕ (Int × VV)) :=
  if w32 x8 < w32 ((40 * x1) + 40) then
    if w32 x8 < w32 1280 then
      j_X16_ask_36 x1 x2 x3 x4 x5 x6 x7 x8 x8 V
    else
      j_X16_ask_36 x1 x2 x3 x4 x5 x6 x7 x8 0 V
  else
    xit (j_X16_ask_46 x1 x2 x3 x4 x5 x6 x7 x8 V)
def l_X16_ask_6 (x1 x2 x3 x4 x5 x6 x7 x8 : Int) (V : VV) : Option (Int × VV) := lpN (fun s : Int => b_X16_ask_6 x1 x2 x3 x4 x5 x6 x7 s V) FU x8
def f_X16_ask (x1 x2 x3 x4 x5 x6 x7 : Int) (V : VV) : Option (Int × VV) :=
  l_X16_ask_6 x1 x2 x3 x4 x5 x6 x7 (40 * x1) V
theorem s_X16_ask_279 {g : GG} {d : Nat} (hD : 4 ≤ d) {x1 x8 : Int} {M : MM} (hM : LM M) {V : VV} {o : AV × MM} {P : (Int × VV) → Prop} (r0 : ∀ r : Int × VV, P r → o = ((0, r.1), (wr M r.2))) {z : Int × VV} (h : j_X16_ask_279 x1 x8 V = some z) (hz : P z) : Sem g d YX16_ask 279 [(1, 156), (0, x1), (9, 0), (9, 0), (9, 0), (9, 0), (9, 0), (9, 0), (0, x8), (9, 0)] [] (wr M V) o := by
  delta j_X16_ask_279 at h
  refine S_aload_n (i := 0) dX16_ask_279 rfl rfl ?_
  refine S_iload_n (i := 1) dX16_ask_280 rfl rfl ?_
  refine S_iload dX16_ask_281 rfl ?_
  refine P2_invVm hM [(0, x1), (0, x8)] [] CVX16_go MLX16_553 dX16_ask_283 rfl rfl rfl rfl (by omega) h (fun r h => F_X16_go (by omega) hM h) (fun V1 h => ?_)
  refine S_iconst dX16_ask_286 rfl ?_
  obtain rfl := r0 _ (some_P (P := fun r => P r) h hz)
  exact P_ret dX16_ask_287 rfl (Or.inr ⟨rfl, Or.inr rfl⟩)
theorem s_X16_ask_243 {g : GG} {d : Nat} (hD : 4 ≤ d) {x1 x8 x9 : Int} {M : MM} (hM : LM M) {V : VV} {o : AV × MM} {P : ((Int × VV) ⊕ (Int × VV)) → Prop} (c0 : ∀ s : Int × VV, P (.inl s) → Sem g d YX16_ask 243 [(1, 156), (0, x1), (9, 0), (9, 0), (9, 0), (9, 0), (9, 0), (9, 0), (0, x8), (0, s.1)] [] (wr M s.2) o) (r0 : ∀ r : Int × VV, P (.inr r) → o = ((0, r.1), (wr M r.2))) {z : (Int × VV) ⊕ (Int × VV)} (h : b_X16_ask_243 x1 x8 x9 V = some z) (hz : P z) : Sem g d YX16_ask 243 [(1, 156), (0, x1), (9, 0), (9, 0), (9, 0), (9, 0), (9, 0), (9, 0), (0, x8), (0, x9)] [] (wr M V) o := by
  delta b_X16_ask_243 at h
  refine S_iload dX16_ask_243 rfl ?_
  refine S_aload_n (i := 0) dX16_ask_245 rfl rfl ?_
  refine P2_gfi hM FLX16_470 rfl dX16_ask_246 ?_
  refine P_icmp_ge (tgt := 279) dX16_ask_249 rfl h (fun h => ?_) (fun h => ?_)
  · refine S_weak (ls' := [(1, 156), (0, x1), (9, 0), (9, 0), (9, 0), (9, 0), (9, 0), (9, 0), (0, x8), (9, 0)]) ⟨Or.inr rfl, ⟨Or.inr rfl, ⟨Or.inl rfl, ⟨Or.inl rfl, ⟨Or.inl rfl, ⟨Or.inl rfl, ⟨Or.inl rfl, ⟨Or.inl rfl, ⟨Or.inr rfl, ⟨Or.inl rfl, trivial⟩⟩⟩⟩⟩⟩⟩⟩⟩⟩ ?_
    obtain ⟨z0, h, hz⟩ := xit_some' (P := fun r => P r) h hz
    exact s_X16_ask_279 hD hM (P := fun r => P (.inr r)) r0 h hz
  · refine S_aload_n (i := 0) dX16_ask_252 rfl rfl ?_
    refine P2_gfr hM (a := 208) FLX16_171 rfl ⟨rfl, rfl⟩ dX16_ask_253 ?_
    refine S_sipush (z := 350) dX16_ask_256 rfl ?_
    refine S_iload dX16_ask_259 rfl ?_
    refine S_imul dX16_ask_261 ?_
    refine S_iload dX16_ask_262 rfl ?_
    refine S_iadd dX16_ask_264 ?_
    refine S_aload_n (i := 0) dX16_ask_265 rfl rfl ?_
    refine P2_gfr hM (a := 188) FLX16_107 rfl ⟨rfl, rfl⟩ dX16_ask_266 ?_
    refine S_iload dX16_ask_269 rfl ?_
    refine P2_lai hM (a := 188) (n := 460) rfl dX16_ask_271 h (fun v1 h => ?_)
    refine P2_sai hM (a := 208) (n := 448000) rfl dX16_ask_272 h (fun V1 h => ?_)
    refine S_iinc dX16_ask_273 rfl rfl rfl ?_
    change Sem g d YX16_ask 276 [(1, 156), (0, x1), (9, 0), (9, 0), (9, 0), (9, 0), (9, 0), (9, 0), (0, x8), (0, x9 + 1)] [] (wr M V1) o
    refine S_goto (tgt := 243) dX16_ask_276 rfl ?_
    exact c0 (x9 + 1, V1) (some_P (P := fun r => P r) h hz)
theorem sl_X16_ask_243 {g : GG} {d : Nat} (hD : 4 ≤ d) {x1 x8 x9 : Int} {M : MM} (hM : LM M) {V : VV} {o : AV × MM} {P : (Int × VV) → Prop} (r0 : ∀ r : Int × VV, P r → o = ((0, r.1), (wr M r.2))) {z : Int × VV} (h : l_X16_ask_243 x1 x8 x9 V = some z) (hz : P z) : Sem g d YX16_ask 243 [(1, 156), (0, x1), (9, 0), (9, 0), (9, 0), (9, 0), (9, 0), (9, 0), (0, x8), (0, x9)] [] (wr M V) o := by
  refine lp_sound (S := fun s : Int × VV => Sem g d YX16_ask 243 [(1, 156), (0, x1), (9, 0), (9, 0), (9, 0), (9, 0), (9, 0), (9, 0), (0, x8), (0, s.1)] [] (wr M s.2) o) (P := P) ?_ FU (x9, V) z h hz
  intro s x hx hP
  exact s_X16_ask_243 hD hM (P := Sum.elim (fun s : Int × VV => Sem g d YX16_ask 243 [(1, 156), (0, x1), (9, 0), (9, 0), (9, 0), (9, 0), (9, 0), (9, 0), (0, x8), (0, s.1)] [] (wr M s.2) o) P) (fun s h => h) (fun s h => r0 s h) hx hP
theorem s_X16_ask_229 {g : GG} {d : Nat} (hD : 4 ≤ d) {x1 x8 : Int} {M : MM} (hM : LM M) {V : VV} {o : AV × MM} {P : (Int × VV) → Prop} (r0 : ∀ r : Int × VV, P r → o = ((0, r.1), (wr M r.2))) {z : Int × VV} (h : j_X16_ask_229 x1 x8 V = some z) (hz : P z) : Sem g d YX16_ask 229 [(1, 156), (0, x1), (9, 0), (9, 0), (9, 0), (9, 0), (9, 0), (9, 0), (0, x8), (9, 0)] [] (wr M V) o := by
  delta j_X16_ask_229 at h
  refine S_aload_n (i := 0) dX16_ask_229 rfl rfl ?_
  refine P2_gfr hM (a := 207) FLX16_167 rfl ⟨rfl, rfl⟩ dX16_ask_230 ?_
  refine S_iload dX16_ask_233 rfl ?_
  refine S_aload_n (i := 0) dX16_ask_235 rfl rfl ?_
  refine P2_gfi hM FLX16_470 rfl dX16_ask_236 ?_
  refine P2_sai hM (a := 207) (n := 1280) rfl dX16_ask_239 h (fun V1 h => ?_)
  refine S_iconst dX16_ask_240 rfl ?_
  refine S_istore dX16_ask_241 (Nat.le_of_ble_eq_true rfl) rfl rfl ?_
  change Sem g d YX16_ask 243 [(1, 156), (0, x1), (9, 0), (9, 0), (9, 0), (9, 0), (9, 0), (9, 0), (0, x8), (0, 0)] [] (wr M V1) o
  exact sl_X16_ask_243 hD hM r0 h hz
theorem s_X16_ask_197 {g : GG} {d : Nat} (hD : 4 ≤ d) {x1 x5 x8 x9 : Int} {M : MM} (hM : LM M) {V : VV} {o : AV × MM} {P : ((Int × VV) ⊕ (Int × VV)) → Prop} (c0 : ∀ s : Int × VV, P (.inl s) → Sem g d YX16_ask 197 [(1, 156), (0, x1), (9, 0), (9, 0), (9, 0), (0, x5), (9, 0), (9, 0), (0, x8), (0, s.1)] [] (wr M s.2) o) (r0 : ∀ r : Int × VV, P (.inr r) → o = ((0, r.1), (wr M r.2))) {z : (Int × VV) ⊕ (Int × VV)} (h : b_X16_ask_197 x1 x5 x8 x9 V = some z) (hz : P z) : Sem g d YX16_ask 197 [(1, 156), (0, x1), (9, 0), (9, 0), (9, 0), (0, x5), (9, 0), (9, 0), (0, x8), (0, x9)] [] (wr M V) o := by
  delta b_X16_ask_197 at h
  refine S_iload dX16_ask_197 rfl ?_
  refine S_iconst dX16_ask_199 rfl ?_
  refine P_icmp_eq (tgt := 229) dX16_ask_200 rfl h (fun h => ?_) (fun h => ?_)
  · refine S_weak (ls' := [(1, 156), (0, x1), (9, 0), (9, 0), (9, 0), (9, 0), (9, 0), (9, 0), (0, x8), (9, 0)]) ⟨Or.inr rfl, ⟨Or.inr rfl, ⟨Or.inl rfl, ⟨Or.inl rfl, ⟨Or.inl rfl, ⟨Or.inl rfl, ⟨Or.inl rfl, ⟨Or.inl rfl, ⟨Or.inr rfl, ⟨Or.inl rfl, trivial⟩⟩⟩⟩⟩⟩⟩⟩⟩⟩ ?_
    obtain ⟨z0, h, hz⟩ := xit_some' (P := fun r => P r) h hz
    exact s_X16_ask_229 hD hM (P := fun r => P (.inr r)) r0 h hz
  · refine S_iload dX16_ask_203 rfl ?_
    refine S_aload_n (i := 0) dX16_ask_205 rfl rfl ?_
    refine P2_gfi hM FLX16_544 rfl dX16_ask_206 ?_
    refine P_icmp_ge (tgt := 229) dX16_ask_209 rfl h (fun h => ?_) (fun h => ?_)
    · refine S_weak (ls' := [(1, 156), (0, x1), (9, 0), (9, 0), (9, 0), (9, 0), (9, 0), (9, 0), (0, x8), (9, 0)]) ⟨Or.inr rfl, ⟨Or.inr rfl, ⟨Or.inl rfl, ⟨Or.inl rfl, ⟨Or.inl rfl, ⟨Or.inl rfl, ⟨Or.inl rfl, ⟨Or.inl rfl, ⟨Or.inr rfl, ⟨Or.inl rfl, trivial⟩⟩⟩⟩⟩⟩⟩⟩⟩⟩ ?_
      obtain ⟨z0, h, hz⟩ := xit_some' (P := fun r => P r) h hz
      exact s_X16_ask_229 hD hM (P := fun r => P (.inr r)) r0 h hz
    · refine S_aload_n (i := 0) dX16_ask_212 rfl rfl ?_
      refine S_aload_n (i := 0) dX16_ask_213 rfl rfl ?_
      refine P2_gfr hM (a := 209) FLX16_174 rfl ⟨rfl, rfl⟩ dX16_ask_214 ?_
      refine S_iload dX16_ask_217 rfl ?_
      refine P2_lai hM (a := 209) (n := 325) rfl dX16_ask_219 h (fun v1 h => ?_)
      refine P2_invVm hM [(0, v1)] [] CVX16_byteOut MLX16_490 dX16_ask_220 rfl rfl rfl rfl (by omega) h (fun r h => F_X16_byteOut (by omega) hM h) (fun V1 h => ?_)
      refine S_iinc dX16_ask_223 rfl rfl rfl ?_
      change Sem g d YX16_ask 226 [(1, 156), (0, x1), (9, 0), (9, 0), (9, 0), (0, x5), (9, 0), (9, 0), (0, x8), (0, x9 + 1)] [] (wr M V1) o
      refine S_goto (tgt := 197) dX16_ask_226 rfl ?_
      exact c0 (x9 + 1, V1) (some_P (P := fun r => P r) h hz)
theorem sl_X16_ask_197 {g : GG} {d : Nat} (hD : 4 ≤ d) {x1 x5 x8 x9 : Int} {M : MM} (hM : LM M) {V : VV} {o : AV × MM} {P : (Int × VV) → Prop} (r0 : ∀ r : Int × VV, P r → o = ((0, r.1), (wr M r.2))) {z : Int × VV} (h : l_X16_ask_197 x1 x5 x8 x9 V = some z) (hz : P z) : Sem g d YX16_ask 197 [(1, 156), (0, x1), (9, 0), (9, 0), (9, 0), (0, x5), (9, 0), (9, 0), (0, x8), (0, x9)] [] (wr M V) o := by
  refine lp_sound (S := fun s : Int × VV => Sem g d YX16_ask 197 [(1, 156), (0, x1), (9, 0), (9, 0), (9, 0), (0, x5), (9, 0), (9, 0), (0, x8), (0, s.1)] [] (wr M s.2) o) (P := P) ?_ FU (x9, V) z h hz
  intro s x hx hP
  exact s_X16_ask_197 hD hM (P := Sum.elim (fun s : Int × VV => Sem g d YX16_ask 197 [(1, 156), (0, x1), (9, 0), (9, 0), (9, 0), (0, x5), (9, 0), (9, 0), (0, x8), (0, s.1)] [] (wr M s.2) o) P) (fun s h => h) (fun s h => r0 s h) hx hP
theorem s_X16_ask_162 {g : GG} {d : Nat} (hD : 4 ≤ d) {x1 x5 x7 x8 y1 y2 : Int} {M : MM} (hM : LM M) {V : VV} {o : AV × MM} {P : (Int × VV) → Prop} (r0 : ∀ r : Int × VV, P r → o = ((0, r.1), (wr M r.2))) {z : Int × VV} (h : j_X16_ask_162 x1 x5 x7 x8 y1 y2 V = some z) (hz : P z) : Sem g d YX16_ask 162 [(1, 156), (0, x1), (9, 0), (9, 0), (9, 0), (0, x5), (9, 0), (0, x7), (0, x8), (9, 0)] [(0, y2), (0, y1), (1, 205)] (wr M V) o := by
  delta j_X16_ask_162 at h
  refine P2_sai hM (a := 205) (n := 1280) rfl dX16_ask_162 h (fun V1 h => ?_)
  refine S_aload_n (i := 0) dX16_ask_163 rfl rfl ?_
  refine P2_gfr hM (a := 206) FLX16_164 rfl ⟨rfl, rfl⟩ dX16_ask_164 ?_
  refine S_iload dX16_ask_167 rfl ?_
  refine S_iload dX16_ask_169 rfl ?_
  refine P2_sai hM (a := 206) (n := 1280) rfl dX16_ask_171 h (fun V2 h => ?_)
  refine S_aload_n (i := 0) dX16_ask_172 rfl rfl ?_
  refine P2_gfr hM (a := 203) FLX16_155 rfl ⟨rfl, rfl⟩ dX16_ask_173 ?_
  refine S_iload dX16_ask_176 rfl ?_
  refine S_iconst dX16_ask_178 rfl ?_
  refine P2_sai hM (a := 203) (n := 1280) rfl dX16_ask_179 h (fun V3 h => ?_)
  refine S_aload_n (i := 0) dX16_ask_180 rfl rfl ?_
  refine S_iload_n (i := 1) dX16_ask_181 rfl rfl ?_
  refine S_iload dX16_ask_182 rfl ?_
  refine S_aload_n (i := 0) dX16_ask_184 rfl rfl ?_
  refine P2_gfr hM (a := 198) FLX16_140 rfl ⟨rfl, rfl⟩ dX16_ask_185 ?_
  refine S_iload dX16_ask_188 rfl ?_
  refine P2_lai hM (a := 198) (n := 1280) rfl dX16_ask_190 h (fun v1 h => ?_)
  refine P2_invVm hM [(0, x1), (0, x5), (0, v1)] [] CVX16_head MLX16_550 dX16_ask_191 rfl rfl rfl rfl (by omega) h (fun r h => F_X16_head (by omega) hM h) (fun V4 h => ?_)
  refine S_iconst dX16_ask_194 rfl ?_
  refine S_istore dX16_ask_195 (Nat.le_of_ble_eq_true rfl) rfl rfl ?_
  change Sem g d YX16_ask 197 [(1, 156), (0, x1), (9, 0), (9, 0), (9, 0), (0, x5), (9, 0), (0, x7), (0, x8), (0, 0)] [] (wr M V4) o
  refine S_weak (ls' := [(1, 156), (0, x1), (9, 0), (9, 0), (9, 0), (0, x5), (9, 0), (9, 0), (0, x8), (0, 0)]) ⟨Or.inr rfl, ⟨Or.inr rfl, ⟨Or.inl rfl, ⟨Or.inl rfl, ⟨Or.inl rfl, ⟨Or.inr rfl, ⟨Or.inl rfl, ⟨Or.inl rfl, ⟨Or.inr rfl, ⟨Or.inr rfl, trivial⟩⟩⟩⟩⟩⟩⟩⟩⟩⟩ ?_
  exact sl_X16_ask_197 hD hM r0 h hz
theorem s_X16_ask_157 {g : GG} {d : Nat} (hD : 4 ≤ d) {x1 x5 x7 x8 y1 y3 : Int} {M : MM} (hM : LM M) {V : VV} {o : AV × MM} {P : (Int × VV) → Prop} (r0 : ∀ r : Int × VV, P r → o = ((0, r.1), (wr M r.2))) {z : Int × VV} (h : j_X16_ask_157 x1 x5 x7 x8 y1 y3 V = some z) (hz : P z) : Sem g d YX16_ask 157 [(1, 156), (0, x1), (9, 0), (9, 0), (9, 0), (0, x5), (9, 0), (0, x7), (0, x8), (9, 0)] [(0, y3), (1, 231), (0, y1), (1, 205)] (wr M V) o := by
  delta j_X16_ask_157 at h
  refine P2_lai hM (a := 231) (n := 44) rfl dX16_ask_157 h (fun v1 h => ?_)
  refine S_goto (tgt := 162) dX16_ask_158 rfl ?_
  exact s_X16_ask_162 hD hM r0 h hz
theorem s_X16_ask_46 {g : GG} {d : Nat} (hD : 4 ≤ d) {x1 x2 x3 x4 x5 x6 x7 x8 : Int} {M : MM} (hM : LM M) {V : VV} {o : AV × MM} {P : (Int × VV) → Prop} (r0 : ∀ r : Int × VV, P r → o = ((0, r.1), (wr M r.2))) {z : Int × VV} (h : j_X16_ask_46 x1 x2 x3 x4 x5 x6 x7 x8 V = some z) (hz : P z) : Sem g d YX16_ask 46 [(1, 156), (0, x1), (0, x2), (1, x3), (0, x4), (0, x5), (0, x6), (0, x7), (0, x8), (9, 0)] [] (wr M V) o := by
  delta j_X16_ask_46 at h
  refine S_iload dX16_ask_46 rfl ?_
  refine S_bipush (z := 40) dX16_ask_48 rfl ?_
  refine S_iload_n (i := 1) dX16_ask_50 rfl rfl ?_
  refine S_imul dX16_ask_51 ?_
  refine S_bipush (z := 40) dX16_ask_52 rfl ?_
  refine S_iadd dX16_ask_54 ?_
  refine P_icmp_ne (tgt := 60) dX16_ask_55 rfl h (fun h => ?_) (fun h => ?_)
  · refine S_aload_n (i := 0) dX16_ask_60 rfl rfl ?_
    refine P2_gfr hM (a := 197) FLX16_137 rfl ⟨rfl, rfl⟩ dX16_ask_61 ?_
    refine S_iload dX16_ask_64 rfl ?_
    refine S_iconst dX16_ask_66 rfl ?_
    refine P2_saz hM (a := 197) (n := 1280) rfl dX16_ask_67 h (fun V1 h => ?_)
    refine S_aload_n (i := 0) dX16_ask_68 rfl rfl ?_
    refine P2_gfr hM (a := 198) FLX16_140 rfl ⟨rfl, rfl⟩ dX16_ask_69 ?_
    refine S_iload dX16_ask_72 rfl ?_
    refine S_aload_n (i := 0) dX16_ask_74 rfl rfl ?_
    refine P2_gfr hM (a := 171) FLX16_54 rfl ⟨rfl, rfl⟩ dX16_ask_75 ?_
    refine S_iload_n (i := 1) dX16_ask_78 rfl rfl ?_
    refine P2_lai hM (a := 171) (n := 32) rfl dX16_ask_79 h (fun v1 h => ?_)
    refine P2_sai hM (a := 198) (n := 1280) rfl dX16_ask_80 h (fun V2 h => ?_)
    refine S_aload_n (i := 0) dX16_ask_81 rfl rfl ?_
    refine P2_gfr hM (a := 171) FLX16_54 rfl ⟨rfl, rfl⟩ dX16_ask_82 ?_
    refine S_iload_n (i := 1) dX16_ask_85 rfl rfl ?_
    refine S_dup2 dX16_ask_86 (Nat.le_of_ble_eq_true rfl) (Nat.le_of_ble_eq_true rfl) ?_
    refine P2_lai hM (a := 171) (n := 32) rfl dX16_ask_87 h (fun v2 h => ?_)
    refine S_iconst dX16_ask_88 rfl ?_
    refine S_iadd dX16_ask_89 ?_
    refine P2_sai hM (a := 171) (n := 32) rfl dX16_ask_90 h (fun V3 h => ?_)
    refine S_aload_n (i := 0) dX16_ask_91 rfl rfl ?_
    refine P2_gfr hM (a := 199) FLX16_143 rfl ⟨rfl, rfl⟩ dX16_ask_92 ?_
    refine S_iload dX16_ask_95 rfl ?_
    refine S_iload_n (i := 2) dX16_ask_97 rfl rfl ?_
    refine P2_sai hM (a := 199) (n := 1280) rfl dX16_ask_98 h (fun V4 h => ?_)
    refine S_aload_n (i := 0) dX16_ask_99 rfl rfl ?_
    refine P2_gfr hM (a := 200) FLX16_146 rfl ⟨rfl, rfl⟩ dX16_ask_100 ?_
    refine S_iconst dX16_ask_103 rfl ?_
    refine S_iload dX16_ask_104 rfl ?_
    refine S_imul dX16_ask_106 ?_
    refine S_aload_n (i := 3) dX16_ask_107 rfl rfl ?_
    refine S_iload dX16_ask_108 rfl ?_
    refine P2_invSm hM [(1, 200), (0, 5 * x8), (1, x3), (0, x4)] [] CSX16_put MLX16_438 dX16_ask_110 rfl rfl rfl rfl (by omega) h (fun r h => F_X16_put (by omega) hM h) (fun V5 h => ?_)
    refine S_aload_n (i := 0) dX16_ask_113 rfl rfl ?_
    refine P2_gfr hM (a := 201) FLX16_149 rfl ⟨rfl, rfl⟩ dX16_ask_114 ?_
    refine S_iload dX16_ask_117 rfl ?_
    refine S_iload dX16_ask_119 rfl ?_
    refine P2_sai hM (a := 201) (n := 1280) rfl dX16_ask_121 h (fun V6 h => ?_)
    refine S_aload_n (i := 0) dX16_ask_122 rfl rfl ?_
    refine P2_gfr hM (a := 204) FLX16_158 rfl ⟨rfl, rfl⟩ dX16_ask_123 ?_
    refine S_iload dX16_ask_126 rfl ?_
    refine S_iload dX16_ask_128 rfl ?_
    refine P2_sai hM (a := 204) (n := 1280) rfl dX16_ask_130 h (fun V7 h => ?_)
    refine S_aload_n (i := 0) dX16_ask_131 rfl rfl ?_
    refine P2_gfr hM (a := 205) FLX16_161 rfl ⟨rfl, rfl⟩ dX16_ask_132 ?_
    refine S_iload dX16_ask_135 rfl ?_
    refine S_iload dX16_ask_137 rfl ?_
    refine P_if_lt (tgt := 161) dX16_ask_139 rfl h (fun h => ?_) (fun h => ?_)
    · refine S_iconst dX16_ask_161 rfl ?_
      refine S_weak (ls' := [(1, 156), (0, x1), (9, 0), (9, 0), (9, 0), (0, x5), (9, 0), (0, x7), (0, x8), (9, 0)]) ⟨Or.inr rfl, ⟨Or.inr rfl, ⟨Or.inl rfl, ⟨Or.inl rfl, ⟨Or.inl rfl, ⟨Or.inr rfl, ⟨Or.inl rfl, ⟨Or.inr rfl, ⟨Or.inr rfl, ⟨Or.inl rfl, trivial⟩⟩⟩⟩⟩⟩⟩⟩⟩⟩ ?_
      exact s_X16_ask_162 hD hM r0 h hz
    · refine S_aload_n (i := 0) dX16_ask_142 rfl rfl ?_
      refine P2_gfr hM (a := 231) FLX16_240 rfl ⟨rfl, rfl⟩ dX16_ask_143 ?_
      refine S_iload dX16_ask_146 rfl ?_
      refine P_if_ge (tgt := 155) dX16_ask_148 rfl h (fun h => ?_) (fun h => ?_)
      · refine S_iload dX16_ask_155 rfl ?_
        refine S_weak (ls' := [(1, 156), (0, x1), (9, 0), (9, 0), (9, 0), (0, x5), (9, 0), (0, x7), (0, x8), (9, 0)]) ⟨Or.inr rfl, ⟨Or.inr rfl, ⟨Or.inl rfl, ⟨Or.inl rfl, ⟨Or.inl rfl, ⟨Or.inr rfl, ⟨Or.inl rfl, ⟨Or.inr rfl, ⟨Or.inr rfl, ⟨Or.inl rfl, trivial⟩⟩⟩⟩⟩⟩⟩⟩⟩⟩ ?_
        exact s_X16_ask_157 hD hM r0 h hz
      · refine S_iconst dX16_ask_151 rfl ?_
        refine S_goto (tgt := 157) dX16_ask_152 rfl ?_
        refine S_weak (ls' := [(1, 156), (0, x1), (9, 0), (9, 0), (9, 0), (0, x5), (9, 0), (0, x7), (0, x8), (9, 0)]) ⟨Or.inr rfl, ⟨Or.inr rfl, ⟨Or.inl rfl, ⟨Or.inl rfl, ⟨Or.inl rfl, ⟨Or.inr rfl, ⟨Or.inl rfl, ⟨Or.inr rfl, ⟨Or.inr rfl, ⟨Or.inl rfl, trivial⟩⟩⟩⟩⟩⟩⟩⟩⟩⟩ ?_
        exact s_X16_ask_157 hD hM r0 h hz
  · refine S_iconst dX16_ask_58 rfl ?_
    obtain rfl := r0 _ (some_P (P := fun r => P r) h hz)
    exact P_ret dX16_ask_59 rfl (Or.inr ⟨rfl, Or.inl rfl⟩)
theorem s_X16_ask_36 {g : GG} {d : Nat} (hD : 4 ≤ d) {x1 x2 x3 x4 x5 x6 x7 x8 y1 : Int} {M : MM} (hM : LM M) {V : VV} {o : AV × MM} {P : ((Int) ⊕ (Int × VV)) → Prop} (c0 : ∀ s : Int, P (.inl s) → Sem g d YX16_ask 6 [(1, 156), (0, x1), (0, x2), (1, x3), (0, x4), (0, x5), (0, x6), (0, x7), (0, s), (9, 0)] [] (wr M V) o) (r0 : ∀ r : Int × VV, P (.inr r) → o = ((0, r.1), (wr M r.2))) {z : (Int) ⊕ (Int × VV)} (h : j_X16_ask_36 x1 x2 x3 x4 x5 x6 x7 x8 y1 V = some z) (hz : P z) : Sem g d YX16_ask 36 [(1, 156), (0, x1), (0, x2), (1, x3), (0, x4), (0, x5), (0, x6), (0, x7), (0, x8), (9, 0)] [(0, y1), (1, 197)] (wr M V) o := by
  delta j_X16_ask_36 at h
  refine P2_laz hM (a := 197) (n := 1280) rfl dX16_ask_36 h (fun v1 h => ?_)
  refine P_if_eq (tgt := 46) dX16_ask_37 rfl h (fun h => ?_) (fun h => ?_)
  · obtain ⟨z0, h, hz⟩ := xit_some' (P := fun r => P r) h hz
    exact s_X16_ask_46 hD hM (P := fun r => P (.inr r)) r0 h hz
  · refine S_iinc dX16_ask_40 rfl rfl rfl ?_
    change Sem g d YX16_ask 43 [(1, 156), (0, x1), (0, x2), (1, x3), (0, x4), (0, x5), (0, x6), (0, x7), (0, x8 + 1), (9, 0)] [] (wr M V) o
    refine S_goto (tgt := 6) dX16_ask_43 rfl ?_
    exact c0 (x8 + 1) (some_P (P := fun r => P r) h hz)
theorem s_X16_ask_6 {g : GG} {d : Nat} (hD : 4 ≤ d) {x1 x2 x3 x4 x5 x6 x7 x8 : Int} {M : MM} (hM : LM M) {V : VV} {o : AV × MM} {P : ((Int) ⊕ (Int × VV)) → Prop} (c0 : ∀ s : Int, P (.inl s) → Sem g d YX16_ask 6 [(1, 156), (0, x1), (0, x2), (1, x3), (0, x4), (0, x5), (0, x6), (0, x7), (0, s), (9, 0)] [] (wr M V) o) (r0 : ∀ r : Int × VV, P (.inr r) → o = ((0, r.1), (wr M r.2))) {z : (Int) ⊕ (Int × VV)} (h : b_X16_ask_6 x1 x2 x3 x4 x5 x6 x7 x8 V = some z) (hz : P z) : Sem g d YX16_ask 6 [(1, 156), (0, x1), (0, x2), (1, x3), (0, x4), (0, x5), (0, x6), (0, x7), (0, x8), (9, 0)] [] (wr M V) o := by
  delta b_X16_ask_6 at h
  refine S_iload dX16_ask_6 rfl ?_
  refine S_bipush (z := 40) dX16_ask_8 rfl ?_
  refine S_iload_n (i := 1) dX16_ask_10 rfl rfl ?_
  refine S_imul dX16_ask_11 ?_
  refine S_bipush (z := 40) dX16_ask_12 rfl ?_
  refine S_iadd dX16_ask_14 ?_
  refine P_icmp_ge (tgt := 46) dX16_ask_15 rfl h (fun h => ?_) (fun h => ?_)
  · obtain ⟨z0, h, hz⟩ := xit_some' (P := fun r => P r) h hz
    exact s_X16_ask_46 hD hM (P := fun r => P (.inr r)) r0 h hz
  · refine S_aload_n (i := 0) dX16_ask_18 rfl rfl ?_
    refine P2_gfr hM (a := 197) FLX16_137 rfl ⟨rfl, rfl⟩ dX16_ask_19 ?_
    refine S_iload dX16_ask_22 rfl ?_
    refine S_sipush (z := 1280) dX16_ask_24 rfl ?_
    refine P_icmp_ge (tgt := 35) dX16_ask_27 rfl h (fun h => ?_) (fun h => ?_)
    · refine S_iconst dX16_ask_35 rfl ?_
      exact s_X16_ask_36 hD hM c0 r0 h hz
    · refine S_iload dX16_ask_30 rfl ?_
      refine S_goto (tgt := 36) dX16_ask_32 rfl ?_
      exact s_X16_ask_36 hD hM c0 r0 h hz
theorem sl_X16_ask_6 {g : GG} {d : Nat} (hD : 4 ≤ d) {x1 x2 x3 x4 x5 x6 x7 x8 : Int} {M : MM} (hM : LM M) {V : VV} {o : AV × MM} {P : (Int × VV) → Prop} (r0 : ∀ r : Int × VV, P r → o = ((0, r.1), (wr M r.2))) {z : Int × VV} (h : l_X16_ask_6 x1 x2 x3 x4 x5 x6 x7 x8 V = some z) (hz : P z) : Sem g d YX16_ask 6 [(1, 156), (0, x1), (0, x2), (1, x3), (0, x4), (0, x5), (0, x6), (0, x7), (0, x8), (9, 0)] [] (wr M V) o := by
  refine lp_sound (S := fun s : Int => Sem g d YX16_ask 6 [(1, 156), (0, x1), (0, x2), (1, x3), (0, x4), (0, x5), (0, x6), (0, x7), (0, s), (9, 0)] [] (wr M V) o) (P := P) ?_ FU x8 z h hz
  intro s x hx hP
  exact s_X16_ask_6 hD hM (P := Sum.elim (fun s : Int => Sem g d YX16_ask 6 [(1, 156), (0, x1), (0, x2), (1, x3), (0, x4), (0, x5), (0, x6), (0, x7), (0, s), (9, 0)] [] (wr M V) o) P) (fun s h => h) (fun s h => r0 s h) hx hP
theorem s_X16_ask_0 {g : GG} {d : Nat} (hD : 4 ≤ d) {x1 x2 x3 x4 x5 x6 x7 : Int} {M : MM} (hM : LM M) {V : VV} {o : AV × MM} {P : (Int × VV) → Prop} (r0 : ∀ r : Int × VV, P r → o = ((0, r.1), (wr M r.2))) {z : Int × VV} (h : f_X16_ask x1 x2 x3 x4 x5 x6 x7 V = some z) (hz : P z) : Sem g d YX16_ask 0 [(1, 156), (0, x1), (0, x2), (1, x3), (0, x4), (0, x5), (0, x6), (0, x7), (9, 0), (9, 0)] [] (wr M V) o := by
  delta f_X16_ask at h
  refine S_bipush (z := 40) dX16_ask_0 rfl ?_
  refine S_iload_n (i := 1) dX16_ask_2 rfl rfl ?_
  refine S_imul dX16_ask_3 ?_
  refine S_istore dX16_ask_4 (Nat.le_of_ble_eq_true rfl) rfl rfl ?_
  change Sem g d YX16_ask 6 [(1, 156), (0, x1), (0, x2), (1, x3), (0, x4), (0, x5), (0, x6), (0, x7), (0, 40 * x1), (9, 0)] [] (wr M V) o
  exact sl_X16_ask_6 hD hM r0 h hz
theorem F_X16_ask {g : GG} {d : Nat} (hD : 4 ≤ d) {x1 x2 x3 x4 x5 x6 x7 : Int} {M : MM} (hM : LM M) {V : VV} {r : Int × VV} (h : f_X16_ask x1 x2 x3 x4 x5 x6 x7 V = some r) : Sem g d YX16_ask 0 (ini YX16_ask [(1, 156), (0, x1), (0, x2), (1, x3), (0, x4), (0, x5), (0, x6), (0, x7)]) [] (wr M V) ((0, r.1), (wr M r.2)) := by
  change Sem g d YX16_ask 0 [(1, 156), (0, x1), (0, x2), (1, x3), (0, x4), (0, x5), (0, x6), (0, x7), (9, 0), (9, 0)] [] (wr M V) ((0, r.1), (wr M r.2))
  exact s_X16_ask_0 hD hM (P := fun x => x = r) (fun q e => by rw [e]) h rfl
/-! PeerSearchModel.askFor(II[III)Z -/
theorem dX16_askFor_0 : decode cX16_askFor 0 = .ok (.aload_n 0, 1) := by decide +kernel
theorem dX16_askFor_1 : decode cX16_askFor 1 = .ok (.getfield 234, 3) := by decide +kernel
theorem dX16_askFor_4 : decode cX16_askFor 4 = .ok (.iload_n 1, 1) := by decide +kernel
theorem dX16_askFor_5 : decode cX16_askFor 5 = .ok (.iaload, 1) := by decide +kernel
theorem dX16_askFor_6 : decode cX16_askFor 6 = .ok (.ifCond .lt 18, 3) := by decide +kernel
theorem dX16_askFor_9 : decode cX16_askFor 9 = .ok (.aload_n 0, 1) := by decide +kernel
theorem dX16_askFor_10 : decode cX16_askFor 10 = .ok (.getfield 351, 3) := by decide +kernel
theorem dX16_askFor_13 : decode cX16_askFor 13 = .ok (.aload_n 0, 1) := by decide +kernel
theorem dX16_askFor_14 : decode cX16_askFor 14 = .ok (.getfield 234, 3) := by decide +kernel
theorem dX16_askFor_17 : decode cX16_askFor 17 = .ok (.iload_n 1, 1) := by decide +kernel
theorem dX16_askFor_18 : decode cX16_askFor 18 = .ok (.iaload, 1) := by decide +kernel
theorem dX16_askFor_19 : decode cX16_askFor 19 = .ok (.dup2, 1) := by decide +kernel
theorem dX16_askFor_20 : decode cX16_askFor 20 = .ok (.iaload, 1) := by decide +kernel
theorem dX16_askFor_21 : decode cX16_askFor 21 = .ok (.iconst 1, 1) := by decide +kernel
theorem dX16_askFor_22 : decode cX16_askFor 22 = .ok (.iadd, 1) := by decide +kernel
theorem dX16_askFor_23 : decode cX16_askFor 23 = .ok (.iastore, 1) := by decide +kernel
theorem dX16_askFor_24 : decode cX16_askFor 24 = .ok (.aload_n 0, 1) := by decide +kernel
theorem dX16_askFor_25 : decode cX16_askFor 25 = .ok (.aload_n 0, 1) := by decide +kernel
theorem dX16_askFor_26 : decode cX16_askFor 26 = .ok (.getfield 231, 3) := by decide +kernel
theorem dX16_askFor_29 : decode cX16_askFor 29 = .ok (.iload_n 1, 1) := by decide +kernel
theorem dX16_askFor_30 : decode cX16_askFor 30 = .ok (.iaload, 1) := by decide +kernel
theorem dX16_askFor_31 : decode cX16_askFor 31 = .ok (.iload_n 2, 1) := by decide +kernel
theorem dX16_askFor_32 : decode cX16_askFor 32 = .ok (.aload_n 3, 1) := by decide +kernel
theorem dX16_askFor_33 : decode cX16_askFor 33 = .ok (.iload 4, 2) := by decide +kernel
theorem dX16_askFor_35 : decode cX16_askFor 35 = .ok (.iload 5, 2) := by decide +kernel
theorem dX16_askFor_37 : decode cX16_askFor 37 = .ok (.iload_n 1, 1) := by decide +kernel
theorem dX16_askFor_38 : decode cX16_askFor 38 = .ok (.iconst (-1), 1) := by decide +kernel
theorem dX16_askFor_39 : decode cX16_askFor 39 = .ok (.invokevirtual 533, 3) := by decide +kernel
theorem dX16_askFor_42 : decode cX16_askFor 42 = .ok (.ireturn, 1) := by decide +kernel
def j_X16_askFor_24 (x1 x2 x3 x4 x5 : Int) (V : VV) : Option (Int × VV) :=
  (l2 228 44 x1 V).bind fun v1 =>
  (f_X16_ask v1 x2 x3 x4 x5 x1 (-1) V).bind fun r1 =>
  bz r1.1 (some (r1.1, r1.2))
def f_X16_askFor (x1 x2 x3 x4 x5 : Int) (V : VV) : Option (Int × VV) :=
  (l2 229 44 x1 V).bind fun v1 =>
  if w32 v1 < 0 then
    j_X16_askFor_24 x1 x2 x3 x4 x5 V
  else
    (l2 229 44 x1 V).bind fun v2 =>
    (l2 268 256 v2 V).bind fun v3 =>
    (s2 268 256 v2 (v3 + 1) V).bind fun V1 =>
    j_X16_askFor_24 x1 x2 x3 x4 x5 V1
theorem s_X16_askFor_24 {g : GG} {d : Nat} (hD : 5 ≤ d) {x1 x2 x3 x4 x5 : Int} {M : MM} (hM : LM M) {V : VV} {o : AV × MM} {P : (Int × VV) → Prop} (r0 : ∀ r : Int × VV, P r → o = ((0, r.1), (wr M r.2))) {z : Int × VV} (h : j_X16_askFor_24 x1 x2 x3 x4 x5 V = some z) (hz : P z) : Sem g d YX16_askFor 24 [(1, 156), (0, x1), (0, x2), (1, x3), (0, x4), (0, x5)] [] (wr M V) o := by
  delta j_X16_askFor_24 at h
  refine S_aload_n (i := 0) dX16_askFor_24 rfl rfl ?_
  refine S_aload_n (i := 0) dX16_askFor_25 rfl rfl ?_
  refine P2_gfr hM (a := 228) FLX16_231 rfl ⟨rfl, rfl⟩ dX16_askFor_26 ?_
  refine S_iload_n (i := 1) dX16_askFor_29 rfl rfl ?_
  refine P2_lai hM (a := 228) (n := 44) rfl dX16_askFor_30 h (fun v1 h => ?_)
  refine S_iload_n (i := 2) dX16_askFor_31 rfl rfl ?_
  refine S_aload_n (i := 3) dX16_askFor_32 rfl rfl ?_
  refine S_iload dX16_askFor_33 rfl ?_
  refine S_iload dX16_askFor_35 rfl ?_
  refine S_iload_n (i := 1) dX16_askFor_37 rfl rfl ?_
  refine S_iconst dX16_askFor_38 rfl ?_
  refine P2_invVe hM 0 [(0, v1), (0, x2), (1, x3), (0, x4), (0, x5), (0, x1), (0, (-1))] [] CVX16_ask MLX16_533 dX16_askFor_39 rfl rfl rfl rfl rfl (by omega) h (fun r h => F_X16_ask (by omega) hM h) (fun r1 h => ?_)
  obtain ⟨hb, h⟩ := bz_some h
  obtain rfl := r0 _ (some_P (P := fun r => P r) h hz)
  exact P_ret dX16_askFor_42 rfl (Or.inr ⟨rfl, hb⟩)
theorem s_X16_askFor_0 {g : GG} {d : Nat} (hD : 5 ≤ d) {x1 x2 x3 x4 x5 : Int} {M : MM} (hM : LM M) {V : VV} {o : AV × MM} {P : (Int × VV) → Prop} (r0 : ∀ r : Int × VV, P r → o = ((0, r.1), (wr M r.2))) {z : Int × VV} (h : f_X16_askFor x1 x2 x3 x4 x5 V = some z) (hz : P z) : Sem g d YX16_askFor 0 [(1, 156), (0, x1), (0, x2), (1, x3), (0, x4), (0, x5)] [] (wr M V) o := by
  delta f_X16_askFor at h
  refine S_aload_n (i := 0) dX16_askFor_0 rfl rfl ?_
  refine P2_gfr hM (a := 229) FLX16_234 rfl ⟨rfl, rfl⟩ dX16_askFor_1 ?_
  refine S_iload_n (i := 1) dX16_askFor_4 rfl rfl ?_
  refine P2_lai hM (a := 229) (n := 44) rfl dX16_askFor_5 h (fun v1 h => ?_)
  refine P_if_lt (tgt := 24) dX16_askFor_6 rfl h (fun h => ?_) (fun h => ?_)
  · exact s_X16_askFor_24 hD hM r0 h hz
  · refine S_aload_n (i := 0) dX16_askFor_9 rfl rfl ?_
    refine P2_gfr hM (a := 268) FLX16_351 rfl ⟨rfl, rfl⟩ dX16_askFor_10 ?_
    refine S_aload_n (i := 0) dX16_askFor_13 rfl rfl ?_
    refine P2_gfr hM (a := 229) FLX16_234 rfl ⟨rfl, rfl⟩ dX16_askFor_14 ?_
    refine S_iload_n (i := 1) dX16_askFor_17 rfl rfl ?_
    refine P2_lai hM (a := 229) (n := 44) rfl dX16_askFor_18 h (fun v2 h => ?_)
    refine S_dup2 dX16_askFor_19 (Nat.le_of_ble_eq_true rfl) (Nat.le_of_ble_eq_true rfl) ?_
    refine P2_lai hM (a := 268) (n := 256) rfl dX16_askFor_20 h (fun v3 h => ?_)
    refine S_iconst dX16_askFor_21 rfl ?_
    refine S_iadd dX16_askFor_22 ?_
    refine P2_sai hM (a := 268) (n := 256) rfl dX16_askFor_23 h (fun V1 h => ?_)
    exact s_X16_askFor_24 hD hM r0 h hz
theorem F_X16_askFor {g : GG} {d : Nat} (hD : 5 ≤ d) {x1 x2 x3 x4 x5 : Int} {M : MM} (hM : LM M) {V : VV} {r : Int × VV} (h : f_X16_askFor x1 x2 x3 x4 x5 V = some r) : Sem g d YX16_askFor 0 (ini YX16_askFor [(1, 156), (0, x1), (0, x2), (1, x3), (0, x4), (0, x5)]) [] (wr M V) ((0, r.1), (wr M r.2)) := by
  change Sem g d YX16_askFor 0 [(1, 156), (0, x1), (0, x2), (1, x3), (0, x4), (0, x5)] [] (wr M V) ((0, r.1), (wr M r.2))
  exact s_X16_askFor_0 hD hM (P := fun x => x = r) (fun q e => by rw [e]) h rfl
/-! PeerSearchModel.bodyByte(I)V -/
theorem dX16_bodyByte_0 : decode cX16_bodyByte 0 = .ok (.aload_n 0, 1) := by decide +kernel
theorem dX16_bodyByte_1 : decode cX16_bodyByte 1 = .ok (.getfield 174, 3) := by decide +kernel
theorem dX16_bodyByte_4 : decode cX16_bodyByte 4 = .ok (.aload_n 0, 1) := by decide +kernel
theorem dX16_bodyByte_5 : decode cX16_bodyByte 5 = .ok (.getfield 544, 3) := by decide +kernel
theorem dX16_bodyByte_8 : decode cX16_bodyByte 8 = .ok (.iload_n 1, 1) := by decide +kernel
theorem dX16_bodyByte_9 : decode cX16_bodyByte 9 = .ok (.sipush 255, 3) := by decide +kernel
theorem dX16_bodyByte_12 : decode cX16_bodyByte 12 = .ok (.iand, 1) := by decide +kernel
theorem dX16_bodyByte_13 : decode cX16_bodyByte 13 = .ok (.iastore, 1) := by decide +kernel
theorem dX16_bodyByte_14 : decode cX16_bodyByte 14 = .ok (.aload_n 0, 1) := by decide +kernel
theorem dX16_bodyByte_15 : decode cX16_bodyByte 15 = .ok (.dup, 1) := by decide +kernel
theorem dX16_bodyByte_16 : decode cX16_bodyByte 16 = .ok (.getfield 544, 3) := by decide +kernel
theorem dX16_bodyByte_19 : decode cX16_bodyByte 19 = .ok (.iconst 1, 1) := by decide +kernel
theorem dX16_bodyByte_20 : decode cX16_bodyByte 20 = .ok (.iadd, 1) := by decide +kernel
theorem dX16_bodyByte_21 : decode cX16_bodyByte 21 = .ok (.putfield 544, 3) := by decide +kernel
theorem dX16_bodyByte_24 : decode cX16_bodyByte 24 = .ok (.return_, 1) := by decide +kernel
def f_X16_bodyByte (x1 : Int) (V : VV) : Option (VV) :=
  (s2 209 325 (w32 (V 156 64)) (band x1 255) V).bind fun V1 =>
  (p2 64 ((w32 (V1 156 64)) + 1) V1).bind fun V2 =>
  some V2
theorem s_X16_bodyByte_0 {g : GG} {d : Nat} (hD : 0 ≤ d) {x1 : Int} {M : MM} (hM : LM M) {V : VV} {o : AV × MM} {P : (VV) → Prop} (r0 : ∀ r : VV, P r → o = ((9, 0), (wr M r))) {z : VV} (h : f_X16_bodyByte x1 V = some z) (hz : P z) : Sem g d YX16_bodyByte 0 [(1, 156), (0, x1)] [] (wr M V) o := by
  delta f_X16_bodyByte at h
  refine S_aload_n (i := 0) dX16_bodyByte_0 rfl rfl ?_
  refine P2_gfr hM (a := 209) FLX16_174 rfl ⟨rfl, rfl⟩ dX16_bodyByte_1 ?_
  refine S_aload_n (i := 0) dX16_bodyByte_4 rfl rfl ?_
  refine P2_gfi hM FLX16_544 rfl dX16_bodyByte_5 ?_
  refine S_iload_n (i := 1) dX16_bodyByte_8 rfl rfl ?_
  refine S_sipush (z := 255) dX16_bodyByte_9 rfl ?_
  refine S_iand dX16_bodyByte_12 ?_
  refine P2_sai hM (a := 209) (n := 325) rfl dX16_bodyByte_13 h (fun V1 h => ?_)
  refine S_aload_n (i := 0) dX16_bodyByte_14 rfl rfl ?_
  refine S_dup dX16_bodyByte_15 (Nat.le_of_ble_eq_true rfl) ?_
  refine P2_gfi hM FLX16_544 rfl dX16_bodyByte_16 ?_
  refine S_iconst dX16_bodyByte_19 rfl ?_
  refine S_iadd dX16_bodyByte_20 ?_
  refine P2_pfi hM FLX16_544 FPX16_544 rfl dX16_bodyByte_21 h (fun V2 h => ?_)
  obtain rfl := r0 _ (some_P (P := fun r => P r) h hz)
  exact S_return dX16_bodyByte_24 rfl
theorem F_X16_bodyByte {g : GG} {d : Nat} (hD : 0 ≤ d) {x1 : Int} {M : MM} (hM : LM M) {V : VV} {r : VV} (h : f_X16_bodyByte x1 V = some r) : Sem g d YX16_bodyByte 0 (ini YX16_bodyByte [(1, 156), (0, x1)]) [] (wr M V) ((9, 0), (wr M r)) := by
  change Sem g d YX16_bodyByte 0 [(1, 156), (0, x1)] [] (wr M V) ((9, 0), (wr M r))
  exact s_X16_bodyByte_0 hD hM (P := fun x => x = r) (fun q e => by rw [e]) h rfl
/-! PeerSearchModel.bodyKey([II)V -/
theorem dX16_bodyKey_0 : decode cX16_bodyKey 0 = .ok (.aload_n 0, 1) := by decide +kernel
theorem dX16_bodyKey_1 : decode cX16_bodyKey 1 = .ok (.iconst 0, 1) := by decide +kernel
theorem dX16_bodyKey_2 : decode cX16_bodyKey 2 = .ok (.putfield 544, 3) := by decide +kernel
theorem dX16_bodyKey_5 : decode cX16_bodyKey 5 = .ok (.iconst 0, 1) := by decide +kernel
theorem dX16_bodyKey_6 : decode cX16_bodyKey 6 = .ok (.istore_n 3, 1) := by decide +kernel
theorem dX16_bodyKey_7 : decode cX16_bodyKey 7 = .ok (.iload_n 3, 1) := by decide +kernel
theorem dX16_bodyKey_8 : decode cX16_bodyKey 8 = .ok (.bipush 20, 2) := by decide +kernel
theorem dX16_bodyKey_10 : decode cX16_bodyKey 10 = .ok (.if_icmp .ge 30, 3) := by decide +kernel
theorem dX16_bodyKey_13 : decode cX16_bodyKey 13 = .ok (.aload_n 0, 1) := by decide +kernel
theorem dX16_bodyKey_14 : decode cX16_bodyKey 14 = .ok (.aload_n 1, 1) := by decide +kernel
theorem dX16_bodyKey_15 : decode cX16_bodyKey 15 = .ok (.iload_n 2, 1) := by decide +kernel
theorem dX16_bodyKey_16 : decode cX16_bodyKey 16 = .ok (.iload_n 3, 1) := by decide +kernel
theorem dX16_bodyKey_17 : decode cX16_bodyKey 17 = .ok (.iconst 4, 1) := by decide +kernel
theorem dX16_bodyKey_18 : decode cX16_bodyKey 18 = .ok (.idiv, 1) := by decide +kernel
theorem dX16_bodyKey_19 : decode cX16_bodyKey 19 = .ok (.iadd, 1) := by decide +kernel
theorem dX16_bodyKey_20 : decode cX16_bodyKey 20 = .ok (.iaload, 1) := by decide +kernel
theorem dX16_bodyKey_21 : decode cX16_bodyKey 21 = .ok (.bipush 24, 2) := by decide +kernel
theorem dX16_bodyKey_23 : decode cX16_bodyKey 23 = .ok (.bipush 8, 2) := by decide +kernel
theorem dX16_bodyKey_25 : decode cX16_bodyKey 25 = .ok (.iload_n 3, 1) := by decide +kernel
theorem dX16_bodyKey_26 : decode cX16_bodyKey 26 = .ok (.iconst 4, 1) := by decide +kernel
theorem dX16_bodyKey_27 : decode cX16_bodyKey 27 = .ok (.irem, 1) := by decide +kernel
theorem dX16_bodyKey_28 : decode cX16_bodyKey 28 = .ok (.imul, 1) := by decide +kernel
theorem dX16_bodyKey_29 : decode cX16_bodyKey 29 = .ok (.isub, 1) := by decide +kernel
theorem dX16_bodyKey_30 : decode cX16_bodyKey 30 = .ok (.ishr, 1) := by decide +kernel
theorem dX16_bodyKey_31 : decode cX16_bodyKey 31 = .ok (.invokevirtual 547, 3) := by decide +kernel
theorem dX16_bodyKey_34 : decode cX16_bodyKey 34 = .ok (.iinc 3 1, 3) := by decide +kernel
theorem dX16_bodyKey_37 : decode cX16_bodyKey 37 = .ok (.goto (-30), 3) := by decide +kernel
theorem dX16_bodyKey_40 : decode cX16_bodyKey 40 = .ok (.return_, 1) := by decide +kernel
def b_X16_bodyKey_7 (x1 x2 x3 : Int) (V : VV) : Option ((Int × VV) ⊕ (VV)) :=
  if w32 x3 < w32 20 then
    (dvi x3 4).bind fun v1 =>
    (lp x1 (x2 + v1) V).bind fun v2 =>
    (rmi x3 4).bind fun v3 =>
    (f_X16_bodyByte (bshr v2 (24 - (8 * v3))) V).bind fun V1 =>
    cnt (x3 + 1, V1)
  else
    xit (some V)
def l_X16_bodyKey_7 (x1 x2 x3 : Int) (V : VV) : Option (VV) := lpN (fun s : Int × VV => b_X16_bodyKey_7 x1 x2 s.1 s.2) FU (x3, V)
def f_X16_bodyKey (x1 x2 : Int) (V : VV) : Option (VV) :=
  (p2 64 0 V).bind fun V1 =>
  l_X16_bodyKey_7 x1 x2 0 V1
theorem s_X16_bodyKey_7 {g : GG} {d : Nat} (hD : 1 ≤ d) {x1 x2 x3 : Int} {M : MM} (hM : LM M) {V : VV} {o : AV × MM} {P : ((Int × VV) ⊕ (VV)) → Prop} (c0 : ∀ s : Int × VV, P (.inl s) → Sem g d YX16_bodyKey 7 [(1, 156), (1, x1), (0, x2), (0, s.1)] [] (wr M s.2) o) (r0 : ∀ r : VV, P (.inr r) → o = ((9, 0), (wr M r))) {z : (Int × VV) ⊕ (VV)} (h : b_X16_bodyKey_7 x1 x2 x3 V = some z) (hz : P z) : Sem g d YX16_bodyKey 7 [(1, 156), (1, x1), (0, x2), (0, x3)] [] (wr M V) o := by
  delta b_X16_bodyKey_7 at h
  refine S_iload_n (i := 3) dX16_bodyKey_7 rfl rfl ?_
  refine S_bipush (z := 20) dX16_bodyKey_8 rfl ?_
  refine P_icmp_ge (tgt := 40) dX16_bodyKey_10 rfl h (fun h => ?_) (fun h => ?_)
  · obtain ⟨z0, h, hz⟩ := xit_some' (P := fun r => P r) h hz
    obtain rfl := r0 _ (some_P (P := fun r => P (.inr r)) h hz)
    exact S_return dX16_bodyKey_40 rfl
  · refine S_aload_n (i := 0) dX16_bodyKey_13 rfl rfl ?_
    refine S_aload_n (i := 1) dX16_bodyKey_14 rfl rfl ?_
    refine S_iload_n (i := 2) dX16_bodyKey_15 rfl rfl ?_
    refine S_iload_n (i := 3) dX16_bodyKey_16 rfl rfl ?_
    refine S_iconst dX16_bodyKey_17 rfl ?_
    refine P_dvi dX16_bodyKey_18 h (fun v1 h => ?_)
    refine S_iadd dX16_bodyKey_19 ?_
    refine P2_lp hM dX16_bodyKey_20 h (fun v2 h => ?_)
    refine S_bipush (z := 24) dX16_bodyKey_21 rfl ?_
    refine S_bipush (z := 8) dX16_bodyKey_23 rfl ?_
    refine S_iload_n (i := 3) dX16_bodyKey_25 rfl rfl ?_
    refine S_iconst dX16_bodyKey_26 rfl ?_
    refine P_rmi dX16_bodyKey_27 h (fun v3 h => ?_)
    refine S_imul dX16_bodyKey_28 ?_
    refine S_isub dX16_bodyKey_29 ?_
    refine S_ishr dX16_bodyKey_30 ?_
    refine P2_invVm hM [(0, bshr v2 (24 - (8 * v3)))] [] CVX16_bodyByte MLX16_547 dX16_bodyKey_31 rfl rfl rfl rfl (by omega) h (fun r h => F_X16_bodyByte (by omega) hM h) (fun V1 h => ?_)
    refine S_iinc dX16_bodyKey_34 rfl rfl rfl ?_
    change Sem g d YX16_bodyKey 37 [(1, 156), (1, x1), (0, x2), (0, x3 + 1)] [] (wr M V1) o
    refine S_goto (tgt := 7) dX16_bodyKey_37 rfl ?_
    exact c0 (x3 + 1, V1) (some_P (P := fun r => P r) h hz)
theorem sl_X16_bodyKey_7 {g : GG} {d : Nat} (hD : 1 ≤ d) {x1 x2 x3 : Int} {M : MM} (hM : LM M) {V : VV} {o : AV × MM} {P : (VV) → Prop} (r0 : ∀ r : VV, P r → o = ((9, 0), (wr M r))) {z : VV} (h : l_X16_bodyKey_7 x1 x2 x3 V = some z) (hz : P z) : Sem g d YX16_bodyKey 7 [(1, 156), (1, x1), (0, x2), (0, x3)] [] (wr M V) o := by
  refine lp_sound (S := fun s : Int × VV => Sem g d YX16_bodyKey 7 [(1, 156), (1, x1), (0, x2), (0, s.1)] [] (wr M s.2) o) (P := P) ?_ FU (x3, V) z h hz
  intro s x hx hP
  exact s_X16_bodyKey_7 hD hM (P := Sum.elim (fun s : Int × VV => Sem g d YX16_bodyKey 7 [(1, 156), (1, x1), (0, x2), (0, s.1)] [] (wr M s.2) o) P) (fun s h => h) (fun s h => r0 s h) hx hP
theorem s_X16_bodyKey_0 {g : GG} {d : Nat} (hD : 1 ≤ d) {x1 x2 : Int} {M : MM} (hM : LM M) {V : VV} {o : AV × MM} {P : (VV) → Prop} (r0 : ∀ r : VV, P r → o = ((9, 0), (wr M r))) {z : VV} (h : f_X16_bodyKey x1 x2 V = some z) (hz : P z) : Sem g d YX16_bodyKey 0 [(1, 156), (1, x1), (0, x2), (9, 0)] [] (wr M V) o := by
  delta f_X16_bodyKey at h
  refine S_aload_n (i := 0) dX16_bodyKey_0 rfl rfl ?_
  refine S_iconst dX16_bodyKey_1 rfl ?_
  refine P2_pfi hM FLX16_544 FPX16_544 rfl dX16_bodyKey_2 h (fun V1 h => ?_)
  refine S_iconst dX16_bodyKey_5 rfl ?_
  refine S_istore_n (i := 3) dX16_bodyKey_6 rfl (Nat.le_of_ble_eq_true rfl) rfl rfl ?_
  change Sem g d YX16_bodyKey 7 [(1, 156), (1, x1), (0, x2), (0, 0)] [] (wr M V1) o
  exact sl_X16_bodyKey_7 hD hM r0 h hz
theorem F_X16_bodyKey {g : GG} {d : Nat} (hD : 1 ≤ d) {x1 x2 : Int} {M : MM} (hM : LM M) {V : VV} {r : VV} (h : f_X16_bodyKey x1 x2 V = some r) : Sem g d YX16_bodyKey 0 (ini YX16_bodyKey [(1, 156), (1, x1), (0, x2)]) [] (wr M V) ((9, 0), (wr M r)) := by
  change Sem g d YX16_bodyKey 0 [(1, 156), (1, x1), (0, x2), (9, 0)] [] (wr M V) ((9, 0), (wr M r))
  exact s_X16_bodyKey_0 hD hM (P := fun x => x = r) (fun q e => by rw [e]) h rfl
/-! PeerSearchModel.postingWith(I[IIII)I -/
theorem dX16_postingWith_0 : decode cX16_postingWith 0 = .ok (.sipush 200, 3) := by decide +kernel
theorem dX16_postingWith_3 : decode cX16_postingWith 3 = .ok (.iload_n 1, 1) := by decide +kernel
theorem dX16_postingWith_4 : decode cX16_postingWith 4 = .ok (.imul, 1) := by decide +kernel
theorem dX16_postingWith_5 : decode cX16_postingWith 5 = .ok (.istore 6, 2) := by decide +kernel
theorem dX16_postingWith_7 : decode cX16_postingWith 7 = .ok (.iload 6, 2) := by decide +kernel
theorem dX16_postingWith_9 : decode cX16_postingWith 9 = .ok (.sipush 200, 3) := by decide +kernel
theorem dX16_postingWith_12 : decode cX16_postingWith 12 = .ok (.iload_n 1, 1) := by decide +kernel
theorem dX16_postingWith_13 : decode cX16_postingWith 13 = .ok (.imul, 1) := by decide +kernel
theorem dX16_postingWith_14 : decode cX16_postingWith 14 = .ok (.aload_n 0, 1) := by decide +kernel
theorem dX16_postingWith_15 : decode cX16_postingWith 15 = .ok (.getfield 177, 3) := by decide +kernel
theorem dX16_postingWith_18 : decode cX16_postingWith 18 = .ok (.iload_n 1, 1) := by decide +kernel
theorem dX16_postingWith_19 : decode cX16_postingWith 19 = .ok (.iaload, 1) := by decide +kernel
theorem dX16_postingWith_20 : decode cX16_postingWith 20 = .ok (.iadd, 1) := by decide +kernel
theorem dX16_postingWith_21 : decode cX16_postingWith 21 = .ok (.if_icmp .ge 52, 3) := by decide +kernel
theorem dX16_postingWith_24 : decode cX16_postingWith 24 = .ok (.aload_n 0, 1) := by decide +kernel
theorem dX16_postingWith_25 : decode cX16_postingWith 25 = .ok (.getfield 183, 3) := by decide +kernel
theorem dX16_postingWith_28 : decode cX16_postingWith 28 = .ok (.iload 6, 2) := by decide +kernel
theorem dX16_postingWith_30 : decode cX16_postingWith 30 = .ok (.iaload, 1) := by decide +kernel
theorem dX16_postingWith_31 : decode cX16_postingWith 31 = .ok (.iload 4, 2) := by decide +kernel
theorem dX16_postingWith_33 : decode cX16_postingWith 33 = .ok (.if_icmp .ne 34, 3) := by decide +kernel
theorem dX16_postingWith_36 : decode cX16_postingWith 36 = .ok (.aload_n 0, 1) := by decide +kernel
theorem dX16_postingWith_37 : decode cX16_postingWith 37 = .ok (.getfield 186, 3) := by decide +kernel
theorem dX16_postingWith_40 : decode cX16_postingWith 40 = .ok (.iload 6, 2) := by decide +kernel
theorem dX16_postingWith_42 : decode cX16_postingWith 42 = .ok (.iaload, 1) := by decide +kernel
theorem dX16_postingWith_43 : decode cX16_postingWith 43 = .ok (.iload 5, 2) := by decide +kernel
theorem dX16_postingWith_45 : decode cX16_postingWith 45 = .ok (.if_icmp .ne 22, 3) := by decide +kernel
theorem dX16_postingWith_48 : decode cX16_postingWith 48 = .ok (.aload_n 0, 1) := by decide +kernel
theorem dX16_postingWith_49 : decode cX16_postingWith 49 = .ok (.getfield 180, 3) := by decide +kernel
theorem dX16_postingWith_52 : decode cX16_postingWith 52 = .ok (.iconst 5, 1) := by decide +kernel
theorem dX16_postingWith_53 : decode cX16_postingWith 53 = .ok (.iload 6, 2) := by decide +kernel
theorem dX16_postingWith_55 : decode cX16_postingWith 55 = .ok (.imul, 1) := by decide +kernel
theorem dX16_postingWith_56 : decode cX16_postingWith 56 = .ok (.aload_n 2, 1) := by decide +kernel
theorem dX16_postingWith_57 : decode cX16_postingWith 57 = .ok (.iload_n 3, 1) := by decide +kernel
theorem dX16_postingWith_58 : decode cX16_postingWith 58 = .ok (.invokestatic 434, 3) := by decide +kernel
theorem dX16_postingWith_61 : decode cX16_postingWith 61 = .ok (.ifCond .eq 6, 3) := by decide +kernel
theorem dX16_postingWith_64 : decode cX16_postingWith 64 = .ok (.iload 6, 2) := by decide +kernel
theorem dX16_postingWith_66 : decode cX16_postingWith 66 = .ok (.ireturn, 1) := by decide +kernel
theorem dX16_postingWith_67 : decode cX16_postingWith 67 = .ok (.iinc 6 1, 3) := by decide +kernel
theorem dX16_postingWith_70 : decode cX16_postingWith 70 = .ok (.goto (-63), 3) := by decide +kernel
theorem dX16_postingWith_73 : decode cX16_postingWith 73 = .ok (.iconst (-1), 1) := by decide +kernel
theorem dX16_postingWith_74 : decode cX16_postingWith 74 = .ok (.ireturn, 1) := by decide +kernel
def j_X16_postingWith_67 (x1 x2 x3 x4 x5 x6 : Int) (V : VV) : Option ((Int) ⊕ (Int)) :=
  cnt (x6 + 1)
def b_X16_postingWith_7 (x1 x2 x3 x4 x5 x6 : Int) (V : VV) : Option ((Int) ⊕ (Int)) :=
  (l2 210 32 x1 V).bind fun v1 =>
  if w32 x6 < w32 ((200 * x1) + v1) then
    (l2 212 6400 x6 V).bind fun v2 =>
    if w32 v2 = w32 x4 then
      (l2 213 6400 x6 V).bind fun v3 =>
      if w32 v3 = w32 x5 then
        (f_X16_same 211 (5 * x6) x2 x3 V).bind fun v4 =>
        if w32 v4 = 0 then
          j_X16_postingWith_67 x1 x2 x3 x4 x5 x6 V
        else
          xit (some x6)
      else
        j_X16_postingWith_67 x1 x2 x3 x4 x5 x6 V
    else
      j_X16_postingWith_67 x1 x2 x3 x4 x5 x6 V
  else
    xit (some (-1))
def l_X16_postingWith_7 (x1 x2 x3 x4 x5 x6 : Int) (V : VV) : Option (Int) := lpN (fun s : Int => b_X16_postingWith_7 x1 x2 x3 x4 x5 s V) FU x6
def f_X16_postingWith (x1 x2 x3 x4 x5 : Int) (V : VV) : Option (Int) :=
  l_X16_postingWith_7 x1 x2 x3 x4 x5 (200 * x1) V
theorem s_X16_postingWith_67 {g : GG} {d : Nat} (hD : 1 ≤ d) {x1 x2 x3 x4 x5 x6 : Int} {M : MM} (hM : LM M) {V : VV} {o : AV × MM} {P : ((Int) ⊕ (Int)) → Prop} (c0 : ∀ s : Int, P (.inl s) → Sem g d YX16_postingWith 7 [(1, 156), (0, x1), (1, x2), (0, x3), (0, x4), (0, x5), (0, s)] [] (wr M V) o) (r0 : ∀ r : Int, P (.inr r) → o = ((0, r), (wr M V))) {z : (Int) ⊕ (Int)} (h : j_X16_postingWith_67 x1 x2 x3 x4 x5 x6 V = some z) (hz : P z) : Sem g d YX16_postingWith 67 [(1, 156), (0, x1), (1, x2), (0, x3), (0, x4), (0, x5), (0, x6)] [] (wr M V) o := by
  delta j_X16_postingWith_67 at h
  refine S_iinc dX16_postingWith_67 rfl rfl rfl ?_
  change Sem g d YX16_postingWith 70 [(1, 156), (0, x1), (1, x2), (0, x3), (0, x4), (0, x5), (0, x6 + 1)] [] (wr M V) o
  refine S_goto (tgt := 7) dX16_postingWith_70 rfl ?_
  exact c0 (x6 + 1) (some_P (P := fun r => P r) h hz)
theorem s_X16_postingWith_7 {g : GG} {d : Nat} (hD : 1 ≤ d) {x1 x2 x3 x4 x5 x6 : Int} {M : MM} (hM : LM M) {V : VV} {o : AV × MM} {P : ((Int) ⊕ (Int)) → Prop} (c0 : ∀ s : Int, P (.inl s) → Sem g d YX16_postingWith 7 [(1, 156), (0, x1), (1, x2), (0, x3), (0, x4), (0, x5), (0, s)] [] (wr M V) o) (r0 : ∀ r : Int, P (.inr r) → o = ((0, r), (wr M V))) {z : (Int) ⊕ (Int)} (h : b_X16_postingWith_7 x1 x2 x3 x4 x5 x6 V = some z) (hz : P z) : Sem g d YX16_postingWith 7 [(1, 156), (0, x1), (1, x2), (0, x3), (0, x4), (0, x5), (0, x6)] [] (wr M V) o := by
  delta b_X16_postingWith_7 at h
  refine S_iload dX16_postingWith_7 rfl ?_
  refine S_sipush (z := 200) dX16_postingWith_9 rfl ?_
  refine S_iload_n (i := 1) dX16_postingWith_12 rfl rfl ?_
  refine S_imul dX16_postingWith_13 ?_
  refine S_aload_n (i := 0) dX16_postingWith_14 rfl rfl ?_
  refine P2_gfr hM (a := 210) FLX16_177 rfl ⟨rfl, rfl⟩ dX16_postingWith_15 ?_
  refine S_iload_n (i := 1) dX16_postingWith_18 rfl rfl ?_
  refine P2_lai hM (a := 210) (n := 32) rfl dX16_postingWith_19 h (fun v1 h => ?_)
  refine S_iadd dX16_postingWith_20 ?_
  refine P_icmp_ge (tgt := 73) dX16_postingWith_21 rfl h (fun h => ?_) (fun h => ?_)
  · obtain ⟨z0, h, hz⟩ := xit_some' (P := fun r => P r) h hz
    refine S_iconst dX16_postingWith_73 rfl ?_
    obtain rfl := r0 _ (some_P (P := fun r => P (.inr r)) h hz)
    exact P_ret dX16_postingWith_74 rfl (Or.inl rfl)
  · refine S_aload_n (i := 0) dX16_postingWith_24 rfl rfl ?_
    refine P2_gfr hM (a := 212) FLX16_183 rfl ⟨rfl, rfl⟩ dX16_postingWith_25 ?_
    refine S_iload dX16_postingWith_28 rfl ?_
    refine P2_lai hM (a := 212) (n := 6400) rfl dX16_postingWith_30 h (fun v2 h => ?_)
    refine S_iload dX16_postingWith_31 rfl ?_
    refine P_icmp_ne (tgt := 67) dX16_postingWith_33 rfl h (fun h => ?_) (fun h => ?_)
    · exact s_X16_postingWith_67 hD hM c0 r0 h hz
    · refine S_aload_n (i := 0) dX16_postingWith_36 rfl rfl ?_
      refine P2_gfr hM (a := 213) FLX16_186 rfl ⟨rfl, rfl⟩ dX16_postingWith_37 ?_
      refine S_iload dX16_postingWith_40 rfl ?_
      refine P2_lai hM (a := 213) (n := 6400) rfl dX16_postingWith_42 h (fun v3 h => ?_)
      refine S_iload dX16_postingWith_43 rfl ?_
      refine P_icmp_ne (tgt := 67) dX16_postingWith_45 rfl h (fun h => ?_) (fun h => ?_)
      · exact s_X16_postingWith_67 hD hM c0 r0 h hz
      · refine S_aload_n (i := 0) dX16_postingWith_48 rfl rfl ?_
        refine P2_gfr hM (a := 211) FLX16_180 rfl ⟨rfl, rfl⟩ dX16_postingWith_49 ?_
        refine S_iconst dX16_postingWith_52 rfl ?_
        refine S_iload dX16_postingWith_53 rfl ?_
        refine S_imul dX16_postingWith_55 ?_
        refine S_aload_n (i := 2) dX16_postingWith_56 rfl rfl ?_
        refine S_iload_n (i := 3) dX16_postingWith_57 rfl rfl ?_
        refine P_invSp 0 [(1, 211), (0, 5 * x6), (1, x2), (0, x3)] [] CSX16_same MLX16_434 dX16_postingWith_58 rfl rfl rfl rfl rfl (by omega) h (fun r h => F_X16_same (by omega) hM h) (fun v4 h => ?_)
        refine P_if_eq (tgt := 67) dX16_postingWith_61 rfl h (fun h => ?_) (fun h => ?_)
        · exact s_X16_postingWith_67 hD hM c0 r0 h hz
        · obtain ⟨z0, h, hz⟩ := xit_some' (P := fun r => P r) h hz
          refine S_iload dX16_postingWith_64 rfl ?_
          obtain rfl := r0 _ (some_P (P := fun r => P (.inr r)) h hz)
          exact P_ret dX16_postingWith_66 rfl (Or.inl rfl)
theorem sl_X16_postingWith_7 {g : GG} {d : Nat} (hD : 1 ≤ d) {x1 x2 x3 x4 x5 x6 : Int} {M : MM} (hM : LM M) {V : VV} {o : AV × MM} {P : (Int) → Prop} (r0 : ∀ r : Int, P r → o = ((0, r), (wr M V))) {z : Int} (h : l_X16_postingWith_7 x1 x2 x3 x4 x5 x6 V = some z) (hz : P z) : Sem g d YX16_postingWith 7 [(1, 156), (0, x1), (1, x2), (0, x3), (0, x4), (0, x5), (0, x6)] [] (wr M V) o := by
  refine lp_sound (S := fun s : Int => Sem g d YX16_postingWith 7 [(1, 156), (0, x1), (1, x2), (0, x3), (0, x4), (0, x5), (0, s)] [] (wr M V) o) (P := P) ?_ FU x6 z h hz
  intro s x hx hP
  exact s_X16_postingWith_7 hD hM (P := Sum.elim (fun s : Int => Sem g d YX16_postingWith 7 [(1, 156), (0, x1), (1, x2), (0, x3), (0, x4), (0, x5), (0, s)] [] (wr M V) o) P) (fun s h => h) (fun s h => r0 s h) hx hP
theorem s_X16_postingWith_0 {g : GG} {d : Nat} (hD : 1 ≤ d) {x1 x2 x3 x4 x5 : Int} {M : MM} (hM : LM M) {V : VV} {o : AV × MM} {P : (Int) → Prop} (r0 : ∀ r : Int, P r → o = ((0, r), (wr M V))) {z : Int} (h : f_X16_postingWith x1 x2 x3 x4 x5 V = some z) (hz : P z) : Sem g d YX16_postingWith 0 [(1, 156), (0, x1), (1, x2), (0, x3), (0, x4), (0, x5), (9, 0)] [] (wr M V) o := by
  delta f_X16_postingWith at h
  refine S_sipush (z := 200) dX16_postingWith_0 rfl ?_
  refine S_iload_n (i := 1) dX16_postingWith_3 rfl rfl ?_
  refine S_imul dX16_postingWith_4 ?_
  refine S_istore dX16_postingWith_5 (Nat.le_of_ble_eq_true rfl) rfl rfl ?_
  change Sem g d YX16_postingWith 7 [(1, 156), (0, x1), (1, x2), (0, x3), (0, x4), (0, x5), (0, 200 * x1)] [] (wr M V) o
  exact sl_X16_postingWith_7 hD hM r0 h hz
theorem F_X16_postingWith {g : GG} {d : Nat} (hD : 1 ≤ d) {x1 x2 x3 x4 x5 : Int} {M : MM} (hM : LM M) {V : VV} {r : Int} (h : f_X16_postingWith x1 x2 x3 x4 x5 V = some r) : Sem g d YX16_postingWith 0 (ini YX16_postingWith [(1, 156), (0, x1), (1, x2), (0, x3), (0, x4), (0, x5)]) [] (wr M V) ((0, r), (wr M V)) := by
  change Sem g d YX16_postingWith 0 [(1, 156), (0, x1), (1, x2), (0, x3), (0, x4), (0, x5), (9, 0)] [] (wr M V) ((0, r), (wr M V))
  exact s_X16_postingWith_0 hD hM (P := fun x => x = r) (fun q e => by rw [e]) h rfl
/-! PeerSearchModel.keep(I[II)Z -/
theorem dX16_keep_0 : decode cX16_keep 0 = .ok (.iconst 0, 1) := by decide +kernel
theorem dX16_keep_1 : decode cX16_keep 1 = .ok (.istore 4, 2) := by decide +kernel
theorem dX16_keep_3 : decode cX16_keep 3 = .ok (.iconst 0, 1) := by decide +kernel
theorem dX16_keep_4 : decode cX16_keep 4 = .ok (.istore 5, 2) := by decide +kernel
theorem dX16_keep_6 : decode cX16_keep 6 = .ok (.iload 5, 2) := by decide +kernel
theorem dX16_keep_8 : decode cX16_keep 8 = .ok (.aload_n 0, 1) := by decide +kernel
theorem dX16_keep_9 : decode cX16_keep 9 = .ok (.getfield 565, 3) := by decide +kernel
theorem dX16_keep_12 : decode cX16_keep 12 = .ok (.if_icmp .ge 117, 3) := by decide +kernel
theorem dX16_keep_15 : decode cX16_keep 15 = .ok (.aload_n 0, 1) := by decide +kernel
theorem dX16_keep_16 : decode cX16_keep 16 = .ok (.iload_n 1, 1) := by decide +kernel
theorem dX16_keep_17 : decode cX16_keep 17 = .ok (.aload_n 2, 1) := by decide +kernel
theorem dX16_keep_18 : decode cX16_keep 18 = .ok (.iload_n 3, 1) := by decide +kernel
theorem dX16_keep_19 : decode cX16_keep 19 = .ok (.aload_n 0, 1) := by decide +kernel
theorem dX16_keep_20 : decode cX16_keep 20 = .ok (.getfield 198, 3) := by decide +kernel
theorem dX16_keep_23 : decode cX16_keep 23 = .ok (.iload 5, 2) := by decide +kernel
theorem dX16_keep_25 : decode cX16_keep 25 = .ok (.iaload, 1) := by decide +kernel
theorem dX16_keep_26 : decode cX16_keep 26 = .ok (.aload_n 0, 1) := by decide +kernel
theorem dX16_keep_27 : decode cX16_keep 27 = .ok (.getfield 201, 3) := by decide +kernel
theorem dX16_keep_30 : decode cX16_keep 30 = .ok (.iload 5, 2) := by decide +kernel
theorem dX16_keep_32 : decode cX16_keep 32 = .ok (.iaload, 1) := by decide +kernel
theorem dX16_keep_33 : decode cX16_keep 33 = .ok (.invokevirtual 568, 3) := by decide +kernel
theorem dX16_keep_36 : decode cX16_keep 36 = .ok (.ifCond .lt 7, 3) := by decide +kernel
theorem dX16_keep_39 : decode cX16_keep 39 = .ok (.iconst 1, 1) := by decide +kernel
theorem dX16_keep_40 : decode cX16_keep 40 = .ok (.goto 4, 3) := by decide +kernel
theorem dX16_keep_43 : decode cX16_keep 43 = .ok (.iconst 0, 1) := by decide +kernel
theorem dX16_keep_44 : decode cX16_keep 44 = .ok (.istore 6, 2) := by decide +kernel
theorem dX16_keep_46 : decode cX16_keep 46 = .ok (.iconst 0, 1) := by decide +kernel
theorem dX16_keep_47 : decode cX16_keep 47 = .ok (.istore 7, 2) := by decide +kernel
theorem dX16_keep_49 : decode cX16_keep 49 = .ok (.iload 7, 2) := by decide +kernel
theorem dX16_keep_51 : decode cX16_keep 51 = .ok (.iload 5, 2) := by decide +kernel
theorem dX16_keep_53 : decode cX16_keep 53 = .ok (.if_icmp .ge 55, 3) := by decide +kernel
theorem dX16_keep_56 : decode cX16_keep 56 = .ok (.iload 6, 2) := by decide +kernel
theorem dX16_keep_58 : decode cX16_keep 58 = .ok (.ifCond .ne 37, 3) := by decide +kernel
theorem dX16_keep_61 : decode cX16_keep 61 = .ok (.aload_n 0, 1) := by decide +kernel
theorem dX16_keep_62 : decode cX16_keep 62 = .ok (.getfield 198, 3) := by decide +kernel
theorem dX16_keep_65 : decode cX16_keep 65 = .ok (.iload 7, 2) := by decide +kernel
theorem dX16_keep_67 : decode cX16_keep 67 = .ok (.iaload, 1) := by decide +kernel
theorem dX16_keep_68 : decode cX16_keep 68 = .ok (.aload_n 0, 1) := by decide +kernel
theorem dX16_keep_69 : decode cX16_keep 69 = .ok (.getfield 198, 3) := by decide +kernel
theorem dX16_keep_72 : decode cX16_keep 72 = .ok (.iload 5, 2) := by decide +kernel
theorem dX16_keep_74 : decode cX16_keep 74 = .ok (.iaload, 1) := by decide +kernel
theorem dX16_keep_75 : decode cX16_keep 75 = .ok (.if_icmp .ne 24, 3) := by decide +kernel
theorem dX16_keep_78 : decode cX16_keep 78 = .ok (.aload_n 0, 1) := by decide +kernel
theorem dX16_keep_79 : decode cX16_keep 79 = .ok (.getfield 201, 3) := by decide +kernel
theorem dX16_keep_82 : decode cX16_keep 82 = .ok (.iload 7, 2) := by decide +kernel
theorem dX16_keep_84 : decode cX16_keep 84 = .ok (.iaload, 1) := by decide +kernel
theorem dX16_keep_85 : decode cX16_keep 85 = .ok (.aload_n 0, 1) := by decide +kernel
theorem dX16_keep_86 : decode cX16_keep 86 = .ok (.getfield 201, 3) := by decide +kernel
theorem dX16_keep_89 : decode cX16_keep 89 = .ok (.iload 5, 2) := by decide +kernel
theorem dX16_keep_91 : decode cX16_keep 91 = .ok (.iaload, 1) := by decide +kernel
theorem dX16_keep_92 : decode cX16_keep 92 = .ok (.if_icmp .ne 7, 3) := by decide +kernel
theorem dX16_keep_95 : decode cX16_keep 95 = .ok (.iconst 1, 1) := by decide +kernel
theorem dX16_keep_96 : decode cX16_keep 96 = .ok (.goto 4, 3) := by decide +kernel
theorem dX16_keep_99 : decode cX16_keep 99 = .ok (.iconst 0, 1) := by decide +kernel
theorem dX16_keep_100 : decode cX16_keep 100 = .ok (.istore 6, 2) := by decide +kernel
theorem dX16_keep_102 : decode cX16_keep 102 = .ok (.iinc 7 1, 3) := by decide +kernel
theorem dX16_keep_105 : decode cX16_keep 105 = .ok (.goto (-56), 3) := by decide +kernel
theorem dX16_keep_108 : decode cX16_keep 108 = .ok (.iload 4, 2) := by decide +kernel
theorem dX16_keep_110 : decode cX16_keep 110 = .ok (.iload 6, 2) := by decide +kernel
theorem dX16_keep_112 : decode cX16_keep 112 = .ok (.ifCond .eq 7, 3) := by decide +kernel
theorem dX16_keep_115 : decode cX16_keep 115 = .ok (.iconst 0, 1) := by decide +kernel
theorem dX16_keep_116 : decode cX16_keep 116 = .ok (.goto 4, 3) := by decide +kernel
theorem dX16_keep_119 : decode cX16_keep 119 = .ok (.iconst 1, 1) := by decide +kernel
theorem dX16_keep_120 : decode cX16_keep 120 = .ok (.iadd, 1) := by decide +kernel
theorem dX16_keep_121 : decode cX16_keep 121 = .ok (.istore 4, 2) := by decide +kernel
theorem dX16_keep_123 : decode cX16_keep 123 = .ok (.iinc 5 1, 3) := by decide +kernel
theorem dX16_keep_126 : decode cX16_keep 126 = .ok (.goto (-120), 3) := by decide +kernel
theorem dX16_keep_129 : decode cX16_keep 129 = .ok (.aload_n 0, 1) := by decide +kernel
theorem dX16_keep_130 : decode cX16_keep 130 = .ok (.getfield 177, 3) := by decide +kernel
theorem dX16_keep_133 : decode cX16_keep 133 = .ok (.iload_n 1, 1) := by decide +kernel
theorem dX16_keep_134 : decode cX16_keep 134 = .ok (.iaload, 1) := by decide +kernel
theorem dX16_keep_135 : decode cX16_keep 135 = .ok (.iload 4, 2) := by decide +kernel
theorem dX16_keep_137 : decode cX16_keep 137 = .ok (.iadd, 1) := by decide +kernel
theorem dX16_keep_138 : decode cX16_keep 138 = .ok (.sipush 200, 3) := by decide +kernel
theorem dX16_keep_141 : decode cX16_keep 141 = .ok (.if_icmp .le 19, 3) := by decide +kernel
theorem dX16_keep_144 : decode cX16_keep 144 = .ok (.aload_n 0, 1) := by decide +kernel
theorem dX16_keep_145 : decode cX16_keep 145 = .ok (.getfield 57, 3) := by decide +kernel
theorem dX16_keep_148 : decode cX16_keep 148 = .ok (.iconst 5, 1) := by decide +kernel
theorem dX16_keep_149 : decode cX16_keep 149 = .ok (.iload_n 1, 1) := by decide +kernel
theorem dX16_keep_150 : decode cX16_keep 150 = .ok (.imul, 1) := by decide +kernel
theorem dX16_keep_151 : decode cX16_keep 151 = .ok (.iconst 2, 1) := by decide +kernel
theorem dX16_keep_152 : decode cX16_keep 152 = .ok (.iadd, 1) := by decide +kernel
theorem dX16_keep_153 : decode cX16_keep 153 = .ok (.dup2, 1) := by decide +kernel
theorem dX16_keep_154 : decode cX16_keep 154 = .ok (.iaload, 1) := by decide +kernel
theorem dX16_keep_155 : decode cX16_keep 155 = .ok (.iconst 1, 1) := by decide +kernel
theorem dX16_keep_156 : decode cX16_keep 156 = .ok (.iadd, 1) := by decide +kernel
theorem dX16_keep_157 : decode cX16_keep 157 = .ok (.iastore, 1) := by decide +kernel
theorem dX16_keep_158 : decode cX16_keep 158 = .ok (.iconst 0, 1) := by decide +kernel
theorem dX16_keep_159 : decode cX16_keep 159 = .ok (.ireturn, 1) := by decide +kernel
theorem dX16_keep_160 : decode cX16_keep 160 = .ok (.iconst 0, 1) := by decide +kernel
theorem dX16_keep_161 : decode cX16_keep 161 = .ok (.istore 5, 2) := by decide +kernel
theorem dX16_keep_163 : decode cX16_keep 163 = .ok (.iload 5, 2) := by decide +kernel
theorem dX16_keep_165 : decode cX16_keep 165 = .ok (.aload_n 0, 1) := by decide +kernel
theorem dX16_keep_166 : decode cX16_keep 166 = .ok (.getfield 565, 3) := by decide +kernel
theorem dX16_keep_169 : decode cX16_keep 169 = .ok (.if_icmp .ge 135, 3) := by decide +kernel
theorem dX16_keep_172 : decode cX16_keep 172 = .ok (.aload_n 0, 1) := by decide +kernel
theorem dX16_keep_173 : decode cX16_keep 173 = .ok (.iload_n 1, 1) := by decide +kernel
theorem dX16_keep_174 : decode cX16_keep 174 = .ok (.aload_n 2, 1) := by decide +kernel
theorem dX16_keep_175 : decode cX16_keep 175 = .ok (.iload_n 3, 1) := by decide +kernel
theorem dX16_keep_176 : decode cX16_keep 176 = .ok (.aload_n 0, 1) := by decide +kernel
theorem dX16_keep_177 : decode cX16_keep 177 = .ok (.getfield 198, 3) := by decide +kernel
theorem dX16_keep_180 : decode cX16_keep 180 = .ok (.iload 5, 2) := by decide +kernel
theorem dX16_keep_182 : decode cX16_keep 182 = .ok (.iaload, 1) := by decide +kernel
theorem dX16_keep_183 : decode cX16_keep 183 = .ok (.aload_n 0, 1) := by decide +kernel
theorem dX16_keep_184 : decode cX16_keep 184 = .ok (.getfield 201, 3) := by decide +kernel
theorem dX16_keep_187 : decode cX16_keep 187 = .ok (.iload 5, 2) := by decide +kernel
theorem dX16_keep_189 : decode cX16_keep 189 = .ok (.iaload, 1) := by decide +kernel
theorem dX16_keep_190 : decode cX16_keep 190 = .ok (.invokevirtual 568, 3) := by decide +kernel
theorem dX16_keep_193 : decode cX16_keep 193 = .ok (.istore 6, 2) := by decide +kernel
theorem dX16_keep_195 : decode cX16_keep 195 = .ok (.iload 6, 2) := by decide +kernel
theorem dX16_keep_197 : decode cX16_keep 197 = .ok (.ifCond .ge 68, 3) := by decide +kernel
theorem dX16_keep_200 : decode cX16_keep 200 = .ok (.sipush 200, 3) := by decide +kernel
theorem dX16_keep_203 : decode cX16_keep 203 = .ok (.iload_n 1, 1) := by decide +kernel
theorem dX16_keep_204 : decode cX16_keep 204 = .ok (.imul, 1) := by decide +kernel
theorem dX16_keep_205 : decode cX16_keep 205 = .ok (.aload_n 0, 1) := by decide +kernel
theorem dX16_keep_206 : decode cX16_keep 206 = .ok (.getfield 177, 3) := by decide +kernel
theorem dX16_keep_209 : decode cX16_keep 209 = .ok (.iload_n 1, 1) := by decide +kernel
theorem dX16_keep_210 : decode cX16_keep 210 = .ok (.iaload, 1) := by decide +kernel
theorem dX16_keep_211 : decode cX16_keep 211 = .ok (.iadd, 1) := by decide +kernel
theorem dX16_keep_212 : decode cX16_keep 212 = .ok (.istore 6, 2) := by decide +kernel
theorem dX16_keep_214 : decode cX16_keep 214 = .ok (.aload_n 0, 1) := by decide +kernel
theorem dX16_keep_215 : decode cX16_keep 215 = .ok (.getfield 177, 3) := by decide +kernel
theorem dX16_keep_218 : decode cX16_keep 218 = .ok (.iload_n 1, 1) := by decide +kernel
theorem dX16_keep_219 : decode cX16_keep 219 = .ok (.dup2, 1) := by decide +kernel
theorem dX16_keep_220 : decode cX16_keep 220 = .ok (.iaload, 1) := by decide +kernel
theorem dX16_keep_221 : decode cX16_keep 221 = .ok (.iconst 1, 1) := by decide +kernel
theorem dX16_keep_222 : decode cX16_keep 222 = .ok (.iadd, 1) := by decide +kernel
theorem dX16_keep_223 : decode cX16_keep 223 = .ok (.iastore, 1) := by decide +kernel
theorem dX16_keep_224 : decode cX16_keep 224 = .ok (.aload_n 0, 1) := by decide +kernel
theorem dX16_keep_225 : decode cX16_keep 225 = .ok (.getfield 180, 3) := by decide +kernel
theorem dX16_keep_228 : decode cX16_keep 228 = .ok (.iconst 5, 1) := by decide +kernel
theorem dX16_keep_229 : decode cX16_keep 229 = .ok (.iload 6, 2) := by decide +kernel
theorem dX16_keep_231 : decode cX16_keep 231 = .ok (.imul, 1) := by decide +kernel
theorem dX16_keep_232 : decode cX16_keep 232 = .ok (.aload_n 2, 1) := by decide +kernel
theorem dX16_keep_233 : decode cX16_keep 233 = .ok (.iload_n 3, 1) := by decide +kernel
theorem dX16_keep_234 : decode cX16_keep 234 = .ok (.invokestatic 438, 3) := by decide +kernel
theorem dX16_keep_237 : decode cX16_keep 237 = .ok (.aload_n 0, 1) := by decide +kernel
theorem dX16_keep_238 : decode cX16_keep 238 = .ok (.getfield 183, 3) := by decide +kernel
theorem dX16_keep_241 : decode cX16_keep 241 = .ok (.iload 6, 2) := by decide +kernel
theorem dX16_keep_243 : decode cX16_keep 243 = .ok (.aload_n 0, 1) := by decide +kernel
theorem dX16_keep_244 : decode cX16_keep 244 = .ok (.getfield 198, 3) := by decide +kernel
theorem dX16_keep_247 : decode cX16_keep 247 = .ok (.iload 5, 2) := by decide +kernel
theorem dX16_keep_249 : decode cX16_keep 249 = .ok (.iaload, 1) := by decide +kernel
theorem dX16_keep_250 : decode cX16_keep 250 = .ok (.iastore, 1) := by decide +kernel
theorem dX16_keep_251 : decode cX16_keep 251 = .ok (.aload_n 0, 1) := by decide +kernel
theorem dX16_keep_252 : decode cX16_keep 252 = .ok (.getfield 186, 3) := by decide +kernel
theorem dX16_keep_255 : decode cX16_keep 255 = .ok (.iload 6, 2) := by decide +kernel
theorem dX16_keep_257 : decode cX16_keep 257 = .ok (.aload_n 0, 1) := by decide +kernel
theorem dX16_keep_258 : decode cX16_keep 258 = .ok (.getfield 201, 3) := by decide +kernel
theorem dX16_keep_261 : decode cX16_keep 261 = .ok (.iload 5, 2) := by decide +kernel
theorem dX16_keep_263 : decode cX16_keep 263 = .ok (.iaload, 1) := by decide +kernel
theorem dX16_keep_264 : decode cX16_keep 264 = .ok (.iastore, 1) := by decide +kernel
theorem dX16_keep_265 : decode cX16_keep 265 = .ok (.aload_n 0, 1) := by decide +kernel
theorem dX16_keep_266 : decode cX16_keep 266 = .ok (.getfield 189, 3) := by decide +kernel
theorem dX16_keep_269 : decode cX16_keep 269 = .ok (.iload 6, 2) := by decide +kernel
theorem dX16_keep_271 : decode cX16_keep 271 = .ok (.aload_n 0, 1) := by decide +kernel
theorem dX16_keep_272 : decode cX16_keep 272 = .ok (.getfield 204, 3) := by decide +kernel
theorem dX16_keep_275 : decode cX16_keep 275 = .ok (.iload 5, 2) := by decide +kernel
theorem dX16_keep_277 : decode cX16_keep 277 = .ok (.iaload, 1) := by decide +kernel
theorem dX16_keep_278 : decode cX16_keep 278 = .ok (.iastore, 1) := by decide +kernel
theorem dX16_keep_279 : decode cX16_keep 279 = .ok (.aload_n 0, 1) := by decide +kernel
theorem dX16_keep_280 : decode cX16_keep 280 = .ok (.getfield 192, 3) := by decide +kernel
theorem dX16_keep_283 : decode cX16_keep 283 = .ok (.iload 6, 2) := by decide +kernel
theorem dX16_keep_285 : decode cX16_keep 285 = .ok (.aload_n 0, 1) := by decide +kernel
theorem dX16_keep_286 : decode cX16_keep 286 = .ok (.getfield 483, 3) := by decide +kernel
theorem dX16_keep_289 : decode cX16_keep 289 = .ok (.aload_n 0, 1) := by decide +kernel
theorem dX16_keep_290 : decode cX16_keep 290 = .ok (.getfield 25, 3) := by decide +kernel
theorem dX16_keep_293 : decode cX16_keep 293 = .ok (.bipush 7, 2) := by decide +kernel
theorem dX16_keep_295 : decode cX16_keep 295 = .ok (.iaload, 1) := by decide +kernel
theorem dX16_keep_296 : decode cX16_keep 296 = .ok (.iadd, 1) := by decide +kernel
theorem dX16_keep_297 : decode cX16_keep 297 = .ok (.iastore, 1) := by decide +kernel
theorem dX16_keep_298 : decode cX16_keep 298 = .ok (.iinc 5 1, 3) := by decide +kernel
theorem dX16_keep_301 : decode cX16_keep 301 = .ok (.goto (-138), 3) := by decide +kernel
theorem dX16_keep_304 : decode cX16_keep 304 = .ok (.iconst 1, 1) := by decide +kernel
theorem dX16_keep_305 : decode cX16_keep 305 = .ok (.ireturn, 1) := by decide +kernel
def j_X16_keep_265 (x1 x2 x3 x5 x6 : Int) (V : VV) : Option ((Int × VV) ⊕ (Int × VV)) :=
  (l2 219 16 x5 V).bind fun v1 =>
  (s2 214 6400 x6 v1 V).bind fun V1 =>
  (l2 162 11 7 V1).bind fun v2 =>
  (s2 215 6400 x6 ((w32 (V1 156 11)) + v2) V1).bind fun V2 =>
  cnt (x5 + 1, V2)
def b_X16_keep_163 (x1 x2 x3 x5 : Int) (V : VV) : Option ((Int × VV) ⊕ (Int × VV)) :=
  if w32 x5 < w32 (w32 (V 156 74)) then
    (l2 217 16 x5 V).bind fun v1 =>
    (l2 218 16 x5 V).bind fun v2 =>
    (f_X16_postingWith x1 x2 x3 v1 v2 V).bind fun v3 =>
    if w32 v3 < 0 then
      (l2 210 32 x1 V).bind fun v4 =>
      (l2 210 32 x1 V).bind fun v5 =>
      (s2 210 32 x1 (v5 + 1) V).bind fun V1 =>
      (f_X16_put 211 (5 * ((200 * x1) + v4)) x2 x3 V1).bind fun V2 =>
      (l2 217 16 x5 V2).bind fun v6 =>
      (s2 212 6400 ((200 * x1) + v4) v6 V2).bind fun V3 =>
      (l2 218 16 x5 V3).bind fun v7 =>
      (s2 213 6400 ((200 * x1) + v4) v7 V3).bind fun V4 =>
      j_X16_keep_265 x1 x2 x3 x5 ((200 * x1) + v4) V4
    else
      j_X16_keep_265 x1 x2 x3 x5 v3 V
  else
    xit (some (1, V))
def l_X16_keep_163 (x1 x2 x3 x5 : Int) (V : VV) : Option (Int × VV) := lpN (fun s : Int × VV => b_X16_keep_163 x1 x2 x3 s.1 s.2) FU (x5, V)
def j_X16_keep_129 (x1 x2 x3 x4 : Int) (V : VV) : Option (Int × VV) :=
  (l2 210 32 x1 V).bind fun v1 =>
  if w32 200 < w32 (v1 + x4) then
    (l2 172 160 ((5 * x1) + 2) V).bind fun v2 =>
    (s2 172 160 ((5 * x1) + 2) (v2 + 1) V).bind fun V1 =>
    some (0, V1)
  else
    l_X16_keep_163 x1 x2 x3 0 V
def j_X16_keep_120 (x1 x2 x3 x5 y0 y1 : Int) (V : VV) : Option ((Int × Int) ⊕ (Int × VV)) :=
  cnt (y0 + y1, x5 + 1)
def j_X16_keep_108 (x1 x2 x3 x4 x5 x6 : Int) (V : VV) : Option ((Int × Int) ⊕ (Int × VV)) :=
  if w32 x6 = 0 then
    j_X16_keep_120 x1 x2 x3 x5 x4 1 V
  else
    j_X16_keep_120 x1 x2 x3 x5 x4 0 V
def j_X16_keep_100 (x1 x2 x3 x4 x5 x7 y0 : Int) (V : VV) : Option ((Int × Int) ⊕ ((Int × Int) ⊕ (Int × VV))) :=
  cnt (y0, x7 + 1)
def j_X16_keep_99 (x1 x2 x3 x4 x5 x7 : Int) (V : VV) : Option ((Int × Int) ⊕ ((Int × Int) ⊕ (Int × VV))) :=
  j_X16_keep_100 x1 x2 x3 x4 x5 x7 0 V
def j_X16_keep_95 (x1 x2 x3 x4 x5 x7 : Int) (V : VV) : Option ((Int × Int) ⊕ ((Int × Int) ⊕ (Int × VV))) :=
  j_X16_keep_100 x1 x2 x3 x4 x5 x7 1 V
def b_X16_keep_49 (x1 x2 x3 x4 x5 x6 x7 : Int) (V : VV) : Option ((Int × Int) ⊕ ((Int × Int) ⊕ (Int × VV))) :=
  if w32 x7 < w32 x5 then
    if w32 x6 = 0 then
      (l2 217 16 x7 V).bind fun v1 =>
      (l2 217 16 x5 V).bind fun v2 =>
      if w32 v1 = w32 v2 then
        (l2 218 16 x7 V).bind fun v3 =>
        (l2 218 16 x5 V).bind fun v4 =>
        if w32 v3 = w32 v4 then
          j_X16_keep_95 x1 x2 x3 x4 x5 x7 V
        else
          j_X16_keep_99 x1 x2 x3 x4 x5 x7 V
      else
        j_X16_keep_99 x1 x2 x3 x4 x5 x7 V
    else
      j_X16_keep_95 x1 x2 x3 x4 x5 x7 V
  else
    xit (j_X16_keep_108 x1 x2 x3 x4 x5 x6 V)
def l_X16_keep_49 (x1 x2 x3 x4 x5 x6 x7 : Int) (V : VV) : Option ((Int × Int) ⊕ (Int × VV)) := lpN (fun s : Int × Int => b_X16_keep_49 x1 x2 x3 x4 x5 s.1 s.2 V) FU (x6, x7)
def j_X16_keep_44 (x1 x2 x3 x4 x5 y0 : Int) (V : VV) : Option ((Int × Int) ⊕ (Int × VV)) :=
  l_X16_keep_49 x1 x2 x3 x4 x5 y0 0 V
def b_X16_keep_6 (x1 x2 x3 x4 x5 : Int) (V : VV) : Option ((Int × Int) ⊕ (Int × VV)) :=
  if w32 x5 < w32 (w32 (V 156 74)) then
    (l2 217 16 x5 V).bind fun v1 =>
    (l2 218 16 x5 V).bind fun v2 =>
    (f_X16_postingWith x1 x2 x3 v1 v2 V).bind fun v3 =>
    if w32 v3 < 0 then
      j_X16_keep_44 x1 x2 x3 x4 x5 0 V
    else
      j_X16_keep_44 x1 x2 x3 x4 x5 1 V
  else
    xit (j_X16_keep_129 x1 x2 x3 x4 V)
def l_X16_keep_6 (x1 x2 x3 x4 x5 : Int) (V : VV) : Option (Int × VV) := lpN (fun s : Int × Int => b_X16_keep_6 x1 x2 x3 s.1 s.2 V) FU (x4, x5)
def f_X16_keep (x1 x2 x3 : Int) (V : VV) : Option (Int × VV) :=
  l_X16_keep_6 x1 x2 x3 0 0 V
theorem s_X16_keep_265 {g : GG} {d : Nat} (hD : 2 ≤ d) {x1 x2 x3 x5 x6 : Int} {M : MM} (hM : LM M) {V : VV} {o : AV × MM} {P : ((Int × VV) ⊕ (Int × VV)) → Prop} (c0 : ∀ s : Int × VV, P (.inl s) → Sem g d YX16_keep 163 [(1, 156), (0, x1), (1, x2), (0, x3), (9, 0), (0, s.1), (9, 0), (9, 0)] [] (wr M s.2) o) (r0 : ∀ r : Int × VV, P (.inr r) → o = ((0, r.1), (wr M r.2))) {z : (Int × VV) ⊕ (Int × VV)} (h : j_X16_keep_265 x1 x2 x3 x5 x6 V = some z) (hz : P z) : Sem g d YX16_keep 265 [(1, 156), (0, x1), (1, x2), (0, x3), (9, 0), (0, x5), (0, x6), (9, 0)] [] (wr M V) o := by
  delta j_X16_keep_265 at h
  refine S_aload_n (i := 0) dX16_keep_265 rfl rfl ?_
  refine P2_gfr hM (a := 214) FLX16_189 rfl ⟨rfl, rfl⟩ dX16_keep_266 ?_
  refine S_iload dX16_keep_269 rfl ?_
  refine S_aload_n (i := 0) dX16_keep_271 rfl rfl ?_
  refine P2_gfr hM (a := 219) FLX16_204 rfl ⟨rfl, rfl⟩ dX16_keep_272 ?_
  refine S_iload dX16_keep_275 rfl ?_
  refine P2_lai hM (a := 219) (n := 16) rfl dX16_keep_277 h (fun v1 h => ?_)
  refine P2_sai hM (a := 214) (n := 6400) rfl dX16_keep_278 h (fun V1 h => ?_)
  refine S_aload_n (i := 0) dX16_keep_279 rfl rfl ?_
  refine P2_gfr hM (a := 215) FLX16_192 rfl ⟨rfl, rfl⟩ dX16_keep_280 ?_
  refine S_iload dX16_keep_283 rfl ?_
  refine S_aload_n (i := 0) dX16_keep_285 rfl rfl ?_
  refine P2_gfi hM FLX16_483 rfl dX16_keep_286 ?_
  refine S_aload_n (i := 0) dX16_keep_289 rfl rfl ?_
  refine P2_gfr hM (a := 162) FLX16_25 rfl ⟨rfl, rfl⟩ dX16_keep_290 ?_
  refine S_bipush (z := 7) dX16_keep_293 rfl ?_
  refine P2_lai hM (a := 162) (n := 11) rfl dX16_keep_295 h (fun v2 h => ?_)
  refine S_iadd dX16_keep_296 ?_
  refine P2_sai hM (a := 215) (n := 6400) rfl dX16_keep_297 h (fun V2 h => ?_)
  refine S_iinc dX16_keep_298 rfl rfl rfl ?_
  change Sem g d YX16_keep 301 [(1, 156), (0, x1), (1, x2), (0, x3), (9, 0), (0, x5 + 1), (0, x6), (9, 0)] [] (wr M V2) o
  refine S_goto (tgt := 163) dX16_keep_301 rfl ?_
  refine S_weak (ls' := [(1, 156), (0, x1), (1, x2), (0, x3), (9, 0), (0, x5 + 1), (9, 0), (9, 0)]) ⟨Or.inr rfl, ⟨Or.inr rfl, ⟨Or.inr rfl, ⟨Or.inr rfl, ⟨Or.inl rfl, ⟨Or.inr rfl, ⟨Or.inl rfl, ⟨Or.inl rfl, trivial⟩⟩⟩⟩⟩⟩⟩⟩ ?_
  exact c0 (x5 + 1, V2) (some_P (P := fun r => P r) h hz)
theorem s_X16_keep_163 {g : GG} {d : Nat} (hD : 2 ≤ d) {x1 x2 x3 x5 : Int} {M : MM} (hM : LM M) {V : VV} {o : AV × MM} {P : ((Int × VV) ⊕ (Int × VV)) → Prop} (c0 : ∀ s : Int × VV, P (.inl s) → Sem g d YX16_keep 163 [(1, 156), (0, x1), (1, x2), (0, x3), (9, 0), (0, s.1), (9, 0), (9, 0)] [] (wr M s.2) o) (r0 : ∀ r : Int × VV, P (.inr r) → o = ((0, r.1), (wr M r.2))) {z : (Int × VV) ⊕ (Int × VV)} (h : b_X16_keep_163 x1 x2 x3 x5 V = some z) (hz : P z) : Sem g d YX16_keep 163 [(1, 156), (0, x1), (1, x2), (0, x3), (9, 0), (0, x5), (9, 0), (9, 0)] [] (wr M V) o := by
  delta b_X16_keep_163 at h
  refine S_iload dX16_keep_163 rfl ?_
  refine S_aload_n (i := 0) dX16_keep_165 rfl rfl ?_
  refine P2_gfi hM FLX16_565 rfl dX16_keep_166 ?_
  refine P_icmp_ge (tgt := 304) dX16_keep_169 rfl h (fun h => ?_) (fun h => ?_)
  · obtain ⟨z0, h, hz⟩ := xit_some' (P := fun r => P r) h hz
    refine S_iconst dX16_keep_304 rfl ?_
    obtain rfl := r0 _ (some_P (P := fun r => P (.inr r)) h hz)
    exact P_ret dX16_keep_305 rfl (Or.inr ⟨rfl, Or.inr rfl⟩)
  · refine S_aload_n (i := 0) dX16_keep_172 rfl rfl ?_
    refine S_iload_n (i := 1) dX16_keep_173 rfl rfl ?_
    refine S_aload_n (i := 2) dX16_keep_174 rfl rfl ?_
    refine S_iload_n (i := 3) dX16_keep_175 rfl rfl ?_
    refine S_aload_n (i := 0) dX16_keep_176 rfl rfl ?_
    refine P2_gfr hM (a := 217) FLX16_198 rfl ⟨rfl, rfl⟩ dX16_keep_177 ?_
    refine S_iload dX16_keep_180 rfl ?_
    refine P2_lai hM (a := 217) (n := 16) rfl dX16_keep_182 h (fun v1 h => ?_)
    refine S_aload_n (i := 0) dX16_keep_183 rfl rfl ?_
    refine P2_gfr hM (a := 218) FLX16_201 rfl ⟨rfl, rfl⟩ dX16_keep_184 ?_
    refine S_iload dX16_keep_187 rfl ?_
    refine P2_lai hM (a := 218) (n := 16) rfl dX16_keep_189 h (fun v2 h => ?_)
    refine P2_invVp hM 0 [(0, x1), (1, x2), (0, x3), (0, v1), (0, v2)] [] CVX16_postingWith MLX16_568 dX16_keep_190 rfl rfl rfl rfl rfl (by omega) h (fun r h => F_X16_postingWith (by omega) hM h) (fun v3 h => ?_)
    refine S_istore dX16_keep_193 (Nat.le_of_ble_eq_true rfl) rfl rfl ?_
    change Sem g d YX16_keep 195 [(1, 156), (0, x1), (1, x2), (0, x3), (9, 0), (0, x5), (0, v3), (9, 0)] [] (wr M V) o
    refine S_iload dX16_keep_195 rfl ?_
    refine P_if_ge (tgt := 265) dX16_keep_197 rfl h (fun h => ?_) (fun h => ?_)
    · exact s_X16_keep_265 hD hM c0 r0 h hz
    · refine S_sipush (z := 200) dX16_keep_200 rfl ?_
      refine S_iload_n (i := 1) dX16_keep_203 rfl rfl ?_
      refine S_imul dX16_keep_204 ?_
      refine S_aload_n (i := 0) dX16_keep_205 rfl rfl ?_
      refine P2_gfr hM (a := 210) FLX16_177 rfl ⟨rfl, rfl⟩ dX16_keep_206 ?_
      refine S_iload_n (i := 1) dX16_keep_209 rfl rfl ?_
      refine P2_lai hM (a := 210) (n := 32) rfl dX16_keep_210 h (fun v4 h => ?_)
      refine S_iadd dX16_keep_211 ?_
      refine S_istore dX16_keep_212 (Nat.le_of_ble_eq_true rfl) rfl rfl ?_
      change Sem g d YX16_keep 214 [(1, 156), (0, x1), (1, x2), (0, x3), (9, 0), (0, x5), (0, (200 * x1) + v4), (9, 0)] [] (wr M V) o
      refine S_aload_n (i := 0) dX16_keep_214 rfl rfl ?_
      refine P2_gfr hM (a := 210) FLX16_177 rfl ⟨rfl, rfl⟩ dX16_keep_215 ?_
      refine S_iload_n (i := 1) dX16_keep_218 rfl rfl ?_
      refine S_dup2 dX16_keep_219 (Nat.le_of_ble_eq_true rfl) (Nat.le_of_ble_eq_true rfl) ?_
      refine P2_lai hM (a := 210) (n := 32) rfl dX16_keep_220 h (fun v5 h => ?_)
      refine S_iconst dX16_keep_221 rfl ?_
      refine S_iadd dX16_keep_222 ?_
      refine P2_sai hM (a := 210) (n := 32) rfl dX16_keep_223 h (fun V1 h => ?_)
      refine S_aload_n (i := 0) dX16_keep_224 rfl rfl ?_
      refine P2_gfr hM (a := 211) FLX16_180 rfl ⟨rfl, rfl⟩ dX16_keep_225 ?_
      refine S_iconst dX16_keep_228 rfl ?_
      refine S_iload dX16_keep_229 rfl ?_
      refine S_imul dX16_keep_231 ?_
      refine S_aload_n (i := 2) dX16_keep_232 rfl rfl ?_
      refine S_iload_n (i := 3) dX16_keep_233 rfl rfl ?_
      refine P2_invSm hM [(1, 211), (0, 5 * ((200 * x1) + v4)), (1, x2), (0, x3)] [] CSX16_put MLX16_438 dX16_keep_234 rfl rfl rfl rfl (by omega) h (fun r h => F_X16_put (by omega) hM h) (fun V2 h => ?_)
      refine S_aload_n (i := 0) dX16_keep_237 rfl rfl ?_
      refine P2_gfr hM (a := 212) FLX16_183 rfl ⟨rfl, rfl⟩ dX16_keep_238 ?_
      refine S_iload dX16_keep_241 rfl ?_
      refine S_aload_n (i := 0) dX16_keep_243 rfl rfl ?_
      refine P2_gfr hM (a := 217) FLX16_198 rfl ⟨rfl, rfl⟩ dX16_keep_244 ?_
      refine S_iload dX16_keep_247 rfl ?_
      refine P2_lai hM (a := 217) (n := 16) rfl dX16_keep_249 h (fun v6 h => ?_)
      refine P2_sai hM (a := 212) (n := 6400) rfl dX16_keep_250 h (fun V3 h => ?_)
      refine S_aload_n (i := 0) dX16_keep_251 rfl rfl ?_
      refine P2_gfr hM (a := 213) FLX16_186 rfl ⟨rfl, rfl⟩ dX16_keep_252 ?_
      refine S_iload dX16_keep_255 rfl ?_
      refine S_aload_n (i := 0) dX16_keep_257 rfl rfl ?_
      refine P2_gfr hM (a := 218) FLX16_201 rfl ⟨rfl, rfl⟩ dX16_keep_258 ?_
      refine S_iload dX16_keep_261 rfl ?_
      refine P2_lai hM (a := 218) (n := 16) rfl dX16_keep_263 h (fun v7 h => ?_)
      refine P2_sai hM (a := 213) (n := 6400) rfl dX16_keep_264 h (fun V4 h => ?_)
      exact s_X16_keep_265 hD hM c0 r0 h hz
theorem sl_X16_keep_163 {g : GG} {d : Nat} (hD : 2 ≤ d) {x1 x2 x3 x5 : Int} {M : MM} (hM : LM M) {V : VV} {o : AV × MM} {P : (Int × VV) → Prop} (r0 : ∀ r : Int × VV, P r → o = ((0, r.1), (wr M r.2))) {z : Int × VV} (h : l_X16_keep_163 x1 x2 x3 x5 V = some z) (hz : P z) : Sem g d YX16_keep 163 [(1, 156), (0, x1), (1, x2), (0, x3), (9, 0), (0, x5), (9, 0), (9, 0)] [] (wr M V) o := by
  refine lp_sound (S := fun s : Int × VV => Sem g d YX16_keep 163 [(1, 156), (0, x1), (1, x2), (0, x3), (9, 0), (0, s.1), (9, 0), (9, 0)] [] (wr M s.2) o) (P := P) ?_ FU (x5, V) z h hz
  intro s x hx hP
  exact s_X16_keep_163 hD hM (P := Sum.elim (fun s : Int × VV => Sem g d YX16_keep 163 [(1, 156), (0, x1), (1, x2), (0, x3), (9, 0), (0, s.1), (9, 0), (9, 0)] [] (wr M s.2) o) P) (fun s h => h) (fun s h => r0 s h) hx hP
theorem s_X16_keep_129 {g : GG} {d : Nat} (hD : 2 ≤ d) {x1 x2 x3 x4 : Int} {M : MM} (hM : LM M) {V : VV} {o : AV × MM} {P : (Int × VV) → Prop} (r0 : ∀ r : Int × VV, P r → o = ((0, r.1), (wr M r.2))) {z : Int × VV} (h : j_X16_keep_129 x1 x2 x3 x4 V = some z) (hz : P z) : Sem g d YX16_keep 129 [(1, 156), (0, x1), (1, x2), (0, x3), (0, x4), (9, 0), (9, 0), (9, 0)] [] (wr M V) o := by
  delta j_X16_keep_129 at h
  refine S_aload_n (i := 0) dX16_keep_129 rfl rfl ?_
  refine P2_gfr hM (a := 210) FLX16_177 rfl ⟨rfl, rfl⟩ dX16_keep_130 ?_
  refine S_iload_n (i := 1) dX16_keep_133 rfl rfl ?_
  refine P2_lai hM (a := 210) (n := 32) rfl dX16_keep_134 h (fun v1 h => ?_)
  refine S_iload dX16_keep_135 rfl ?_
  refine S_iadd dX16_keep_137 ?_
  refine S_sipush (z := 200) dX16_keep_138 rfl ?_
  refine P_icmp_le (tgt := 160) dX16_keep_141 rfl h (fun h => ?_) (fun h => ?_)
  · refine S_iconst dX16_keep_160 rfl ?_
    refine S_istore dX16_keep_161 (Nat.le_of_ble_eq_true rfl) rfl rfl ?_
    change Sem g d YX16_keep 163 [(1, 156), (0, x1), (1, x2), (0, x3), (0, x4), (0, 0), (9, 0), (9, 0)] [] (wr M V) o
    refine S_weak (ls' := [(1, 156), (0, x1), (1, x2), (0, x3), (9, 0), (0, 0), (9, 0), (9, 0)]) ⟨Or.inr rfl, ⟨Or.inr rfl, ⟨Or.inr rfl, ⟨Or.inr rfl, ⟨Or.inl rfl, ⟨Or.inr rfl, ⟨Or.inl rfl, ⟨Or.inl rfl, trivial⟩⟩⟩⟩⟩⟩⟩⟩ ?_
    exact sl_X16_keep_163 hD hM r0 h hz
  · refine S_aload_n (i := 0) dX16_keep_144 rfl rfl ?_
    refine P2_gfr hM (a := 172) FLX16_57 rfl ⟨rfl, rfl⟩ dX16_keep_145 ?_
    refine S_iconst dX16_keep_148 rfl ?_
    refine S_iload_n (i := 1) dX16_keep_149 rfl rfl ?_
    refine S_imul dX16_keep_150 ?_
    refine S_iconst dX16_keep_151 rfl ?_
    refine S_iadd dX16_keep_152 ?_
    refine S_dup2 dX16_keep_153 (Nat.le_of_ble_eq_true rfl) (Nat.le_of_ble_eq_true rfl) ?_
    refine P2_lai hM (a := 172) (n := 160) rfl dX16_keep_154 h (fun v2 h => ?_)
    refine S_iconst dX16_keep_155 rfl ?_
    refine S_iadd dX16_keep_156 ?_
    refine P2_sai hM (a := 172) (n := 160) rfl dX16_keep_157 h (fun V1 h => ?_)
    refine S_iconst dX16_keep_158 rfl ?_
    obtain rfl := r0 _ (some_P (P := fun r => P r) h hz)
    exact P_ret dX16_keep_159 rfl (Or.inr ⟨rfl, Or.inl rfl⟩)
theorem s_X16_keep_120 {g : GG} {d : Nat} (hD : 2 ≤ d) {x1 x2 x3 x5 y0 y1 : Int} {M : MM} (hM : LM M) {V : VV} {o : AV × MM} {P : ((Int × Int) ⊕ (Int × VV)) → Prop} (c0 : ∀ s : Int × Int, P (.inl s) → Sem g d YX16_keep 6 [(1, 156), (0, x1), (1, x2), (0, x3), (0, s.1), (0, s.2), (9, 0), (9, 0)] [] (wr M V) o) (r0 : ∀ r : Int × VV, P (.inr r) → o = ((0, r.1), (wr M r.2))) {z : (Int × Int) ⊕ (Int × VV)} (h : j_X16_keep_120 x1 x2 x3 x5 y0 y1 V = some z) (hz : P z) : Sem g d YX16_keep 120 [(1, 156), (0, x1), (1, x2), (0, x3), (9, 0), (0, x5), (9, 0), (9, 0)] [(0, y1), (0, y0)] (wr M V) o := by
  delta j_X16_keep_120 at h
  refine S_iadd dX16_keep_120 ?_
  refine S_istore dX16_keep_121 (Nat.le_of_ble_eq_true rfl) rfl rfl ?_
  change Sem g d YX16_keep 123 [(1, 156), (0, x1), (1, x2), (0, x3), (0, y0 + y1), (0, x5), (9, 0), (9, 0)] [] (wr M V) o
  refine S_iinc dX16_keep_123 rfl rfl rfl ?_
  change Sem g d YX16_keep 126 [(1, 156), (0, x1), (1, x2), (0, x3), (0, y0 + y1), (0, x5 + 1), (9, 0), (9, 0)] [] (wr M V) o
  refine S_goto (tgt := 6) dX16_keep_126 rfl ?_
  exact c0 (y0 + y1, x5 + 1) (some_P (P := fun r => P r) h hz)
theorem s_X16_keep_108 {g : GG} {d : Nat} (hD : 2 ≤ d) {x1 x2 x3 x4 x5 x6 : Int} {M : MM} (hM : LM M) {V : VV} {o : AV × MM} {P : ((Int × Int) ⊕ (Int × VV)) → Prop} (c0 : ∀ s : Int × Int, P (.inl s) → Sem g d YX16_keep 6 [(1, 156), (0, x1), (1, x2), (0, x3), (0, s.1), (0, s.2), (9, 0), (9, 0)] [] (wr M V) o) (r0 : ∀ r : Int × VV, P (.inr r) → o = ((0, r.1), (wr M r.2))) {z : (Int × Int) ⊕ (Int × VV)} (h : j_X16_keep_108 x1 x2 x3 x4 x5 x6 V = some z) (hz : P z) : Sem g d YX16_keep 108 [(1, 156), (0, x1), (1, x2), (0, x3), (0, x4), (0, x5), (0, x6), (9, 0)] [] (wr M V) o := by
  delta j_X16_keep_108 at h
  refine S_iload dX16_keep_108 rfl ?_
  refine S_iload dX16_keep_110 rfl ?_
  refine P_if_eq (tgt := 119) dX16_keep_112 rfl h (fun h => ?_) (fun h => ?_)
  · refine S_iconst dX16_keep_119 rfl ?_
    refine S_weak (ls' := [(1, 156), (0, x1), (1, x2), (0, x3), (9, 0), (0, x5), (9, 0), (9, 0)]) ⟨Or.inr rfl, ⟨Or.inr rfl, ⟨Or.inr rfl, ⟨Or.inr rfl, ⟨Or.inl rfl, ⟨Or.inr rfl, ⟨Or.inl rfl, ⟨Or.inl rfl, trivial⟩⟩⟩⟩⟩⟩⟩⟩ ?_
    exact s_X16_keep_120 hD hM c0 r0 h hz
  · refine S_iconst dX16_keep_115 rfl ?_
    refine S_goto (tgt := 120) dX16_keep_116 rfl ?_
    refine S_weak (ls' := [(1, 156), (0, x1), (1, x2), (0, x3), (9, 0), (0, x5), (9, 0), (9, 0)]) ⟨Or.inr rfl, ⟨Or.inr rfl, ⟨Or.inr rfl, ⟨Or.inr rfl, ⟨Or.inl rfl, ⟨Or.inr rfl, ⟨Or.inl rfl, ⟨Or.inl rfl, trivial⟩⟩⟩⟩⟩⟩⟩⟩ ?_
    exact s_X16_keep_120 hD hM c0 r0 h hz
theorem s_X16_keep_100 {g : GG} {d : Nat} (hD : 2 ≤ d) {x1 x2 x3 x4 x5 x7 y0 : Int} {M : MM} (hM : LM M) {V : VV} {o : AV × MM} {P : ((Int × Int) ⊕ ((Int × Int) ⊕ (Int × VV))) → Prop} (c1 : ∀ s : Int × Int, P (.inl s) → Sem g d YX16_keep 49 [(1, 156), (0, x1), (1, x2), (0, x3), (0, x4), (0, x5), (0, s.1), (0, s.2)] [] (wr M V) o) (c0 : ∀ s : Int × Int, P (.inr (.inl s)) → Sem g d YX16_keep 6 [(1, 156), (0, x1), (1, x2), (0, x3), (0, s.1), (0, s.2), (9, 0), (9, 0)] [] (wr M V) o) (r0 : ∀ r : Int × VV, P (.inr (.inr r)) → o = ((0, r.1), (wr M r.2))) {z : (Int × Int) ⊕ ((Int × Int) ⊕ (Int × VV))} (h : j_X16_keep_100 x1 x2 x3 x4 x5 x7 y0 V = some z) (hz : P z) : Sem g d YX16_keep 100 [(1, 156), (0, x1), (1, x2), (0, x3), (0, x4), (0, x5), (9, 0), (0, x7)] [(0, y0)] (wr M V) o := by
  delta j_X16_keep_100 at h
  refine S_istore dX16_keep_100 (Nat.le_of_ble_eq_true rfl) rfl rfl ?_
  change Sem g d YX16_keep 102 [(1, 156), (0, x1), (1, x2), (0, x3), (0, x4), (0, x5), (0, y0), (0, x7)] [] (wr M V) o
  refine S_iinc dX16_keep_102 rfl rfl rfl ?_
  change Sem g d YX16_keep 105 [(1, 156), (0, x1), (1, x2), (0, x3), (0, x4), (0, x5), (0, y0), (0, x7 + 1)] [] (wr M V) o
  refine S_goto (tgt := 49) dX16_keep_105 rfl ?_
  exact c1 (y0, x7 + 1) (some_P (P := fun r => P r) h hz)
theorem s_X16_keep_99 {g : GG} {d : Nat} (hD : 2 ≤ d) {x1 x2 x3 x4 x5 x7 : Int} {M : MM} (hM : LM M) {V : VV} {o : AV × MM} {P : ((Int × Int) ⊕ ((Int × Int) ⊕ (Int × VV))) → Prop} (c1 : ∀ s : Int × Int, P (.inl s) → Sem g d YX16_keep 49 [(1, 156), (0, x1), (1, x2), (0, x3), (0, x4), (0, x5), (0, s.1), (0, s.2)] [] (wr M V) o) (c0 : ∀ s : Int × Int, P (.inr (.inl s)) → Sem g d YX16_keep 6 [(1, 156), (0, x1), (1, x2), (0, x3), (0, s.1), (0, s.2), (9, 0), (9, 0)] [] (wr M V) o) (r0 : ∀ r : Int × VV, P (.inr (.inr r)) → o = ((0, r.1), (wr M r.2))) {z : (Int × Int) ⊕ ((Int × Int) ⊕ (Int × VV))} (h : j_X16_keep_99 x1 x2 x3 x4 x5 x7 V = some z) (hz : P z) : Sem g d YX16_keep 99 [(1, 156), (0, x1), (1, x2), (0, x3), (0, x4), (0, x5), (9, 0), (0, x7)] [] (wr M V) o := by
  delta j_X16_keep_99 at h
  refine S_iconst dX16_keep_99 rfl ?_
  exact s_X16_keep_100 hD hM c1 c0 r0 h hz
theorem s_X16_keep_95 {g : GG} {d : Nat} (hD : 2 ≤ d) {x1 x2 x3 x4 x5 x7 : Int} {M : MM} (hM : LM M) {V : VV} {o : AV × MM} {P : ((Int × Int) ⊕ ((Int × Int) ⊕ (Int × VV))) → Prop} (c1 : ∀ s : Int × Int, P (.inl s) → Sem g d YX16_keep 49 [(1, 156), (0, x1), (1, x2), (0, x3), (0, x4), (0, x5), (0, s.1), (0, s.2)] [] (wr M V) o) (c0 : ∀ s : Int × Int, P (.inr (.inl s)) → Sem g d YX16_keep 6 [(1, 156), (0, x1), (1, x2), (0, x3), (0, s.1), (0, s.2), (9, 0), (9, 0)] [] (wr M V) o) (r0 : ∀ r : Int × VV, P (.inr (.inr r)) → o = ((0, r.1), (wr M r.2))) {z : (Int × Int) ⊕ ((Int × Int) ⊕ (Int × VV))} (h : j_X16_keep_95 x1 x2 x3 x4 x5 x7 V = some z) (hz : P z) : Sem g d YX16_keep 95 [(1, 156), (0, x1), (1, x2), (0, x3), (0, x4), (0, x5), (9, 0), (0, x7)] [] (wr M V) o := by
  delta j_X16_keep_95 at h
  refine S_iconst dX16_keep_95 rfl ?_
  refine S_goto (tgt := 100) dX16_keep_96 rfl ?_
  exact s_X16_keep_100 hD hM c1 c0 r0 h hz
theorem s_X16_keep_49 {g : GG} {d : Nat} (hD : 2 ≤ d) {x1 x2 x3 x4 x5 x6 x7 : Int} {M : MM} (hM : LM M) {V : VV} {o : AV × MM} {P : ((Int × Int) ⊕ ((Int × Int) ⊕ (Int × VV))) → Prop} (c1 : ∀ s : Int × Int, P (.inl s) → Sem g d YX16_keep 49 [(1, 156), (0, x1), (1, x2), (0, x3), (0, x4), (0, x5), (0, s.1), (0, s.2)] [] (wr M V) o) (c0 : ∀ s : Int × Int, P (.inr (.inl s)) → Sem g d YX16_keep 6 [(1, 156), (0, x1), (1, x2), (0, x3), (0, s.1), (0, s.2), (9, 0), (9, 0)] [] (wr M V) o) (r0 : ∀ r : Int × VV, P (.inr (.inr r)) → o = ((0, r.1), (wr M r.2))) {z : (Int × Int) ⊕ ((Int × Int) ⊕ (Int × VV))} (h : b_X16_keep_49 x1 x2 x3 x4 x5 x6 x7 V = some z) (hz : P z) : Sem g d YX16_keep 49 [(1, 156), (0, x1), (1, x2), (0, x3), (0, x4), (0, x5), (0, x6), (0, x7)] [] (wr M V) o := by
  delta b_X16_keep_49 at h
  refine S_iload dX16_keep_49 rfl ?_
  refine S_iload dX16_keep_51 rfl ?_
  refine P_icmp_ge (tgt := 108) dX16_keep_53 rfl h (fun h => ?_) (fun h => ?_)
  · refine S_weak (ls' := [(1, 156), (0, x1), (1, x2), (0, x3), (0, x4), (0, x5), (0, x6), (9, 0)]) ⟨Or.inr rfl, ⟨Or.inr rfl, ⟨Or.inr rfl, ⟨Or.inr rfl, ⟨Or.inr rfl, ⟨Or.inr rfl, ⟨Or.inr rfl, ⟨Or.inl rfl, trivial⟩⟩⟩⟩⟩⟩⟩⟩ ?_
    obtain ⟨z0, h, hz⟩ := xit_some' (P := fun r => P r) h hz
    exact s_X16_keep_108 hD hM (P := fun r => P (.inr r)) c0 r0 h hz
  · refine S_iload dX16_keep_56 rfl ?_
    refine P_if_ne (tgt := 95) dX16_keep_58 rfl h (fun h => ?_) (fun h => ?_)
    · refine S_weak (ls' := [(1, 156), (0, x1), (1, x2), (0, x3), (0, x4), (0, x5), (9, 0), (0, x7)]) ⟨Or.inr rfl, ⟨Or.inr rfl, ⟨Or.inr rfl, ⟨Or.inr rfl, ⟨Or.inr rfl, ⟨Or.inr rfl, ⟨Or.inl rfl, ⟨Or.inr rfl, trivial⟩⟩⟩⟩⟩⟩⟩⟩ ?_
      exact s_X16_keep_95 hD hM c1 c0 r0 h hz
    · refine S_aload_n (i := 0) dX16_keep_61 rfl rfl ?_
      refine P2_gfr hM (a := 217) FLX16_198 rfl ⟨rfl, rfl⟩ dX16_keep_62 ?_
      refine S_iload dX16_keep_65 rfl ?_
      refine P2_lai hM (a := 217) (n := 16) rfl dX16_keep_67 h (fun v1 h => ?_)
      refine S_aload_n (i := 0) dX16_keep_68 rfl rfl ?_
      refine P2_gfr hM (a := 217) FLX16_198 rfl ⟨rfl, rfl⟩ dX16_keep_69 ?_
      refine S_iload dX16_keep_72 rfl ?_
      refine P2_lai hM (a := 217) (n := 16) rfl dX16_keep_74 h (fun v2 h => ?_)
      refine P_icmp_ne (tgt := 99) dX16_keep_75 rfl h (fun h => ?_) (fun h => ?_)
      · refine S_weak (ls' := [(1, 156), (0, x1), (1, x2), (0, x3), (0, x4), (0, x5), (9, 0), (0, x7)]) ⟨Or.inr rfl, ⟨Or.inr rfl, ⟨Or.inr rfl, ⟨Or.inr rfl, ⟨Or.inr rfl, ⟨Or.inr rfl, ⟨Or.inl rfl, ⟨Or.inr rfl, trivial⟩⟩⟩⟩⟩⟩⟩⟩ ?_
        exact s_X16_keep_99 hD hM c1 c0 r0 h hz
      · refine S_aload_n (i := 0) dX16_keep_78 rfl rfl ?_
        refine P2_gfr hM (a := 218) FLX16_201 rfl ⟨rfl, rfl⟩ dX16_keep_79 ?_
        refine S_iload dX16_keep_82 rfl ?_
        refine P2_lai hM (a := 218) (n := 16) rfl dX16_keep_84 h (fun v3 h => ?_)
        refine S_aload_n (i := 0) dX16_keep_85 rfl rfl ?_
        refine P2_gfr hM (a := 218) FLX16_201 rfl ⟨rfl, rfl⟩ dX16_keep_86 ?_
        refine S_iload dX16_keep_89 rfl ?_
        refine P2_lai hM (a := 218) (n := 16) rfl dX16_keep_91 h (fun v4 h => ?_)
        refine P_icmp_ne (tgt := 99) dX16_keep_92 rfl h (fun h => ?_) (fun h => ?_)
        · refine S_weak (ls' := [(1, 156), (0, x1), (1, x2), (0, x3), (0, x4), (0, x5), (9, 0), (0, x7)]) ⟨Or.inr rfl, ⟨Or.inr rfl, ⟨Or.inr rfl, ⟨Or.inr rfl, ⟨Or.inr rfl, ⟨Or.inr rfl, ⟨Or.inl rfl, ⟨Or.inr rfl, trivial⟩⟩⟩⟩⟩⟩⟩⟩ ?_
          exact s_X16_keep_99 hD hM c1 c0 r0 h hz
        · refine S_weak (ls' := [(1, 156), (0, x1), (1, x2), (0, x3), (0, x4), (0, x5), (9, 0), (0, x7)]) ⟨Or.inr rfl, ⟨Or.inr rfl, ⟨Or.inr rfl, ⟨Or.inr rfl, ⟨Or.inr rfl, ⟨Or.inr rfl, ⟨Or.inl rfl, ⟨Or.inr rfl, trivial⟩⟩⟩⟩⟩⟩⟩⟩ ?_
          exact s_X16_keep_95 hD hM c1 c0 r0 h hz
theorem sl_X16_keep_49 {g : GG} {d : Nat} (hD : 2 ≤ d) {x1 x2 x3 x4 x5 x6 x7 : Int} {M : MM} (hM : LM M) {V : VV} {o : AV × MM} {P : ((Int × Int) ⊕ (Int × VV)) → Prop} (c0 : ∀ s : Int × Int, P (.inl s) → Sem g d YX16_keep 6 [(1, 156), (0, x1), (1, x2), (0, x3), (0, s.1), (0, s.2), (9, 0), (9, 0)] [] (wr M V) o) (r0 : ∀ r : Int × VV, P (.inr r) → o = ((0, r.1), (wr M r.2))) {z : (Int × Int) ⊕ (Int × VV)} (h : l_X16_keep_49 x1 x2 x3 x4 x5 x6 x7 V = some z) (hz : P z) : Sem g d YX16_keep 49 [(1, 156), (0, x1), (1, x2), (0, x3), (0, x4), (0, x5), (0, x6), (0, x7)] [] (wr M V) o := by
  refine lp_sound (S := fun s : Int × Int => Sem g d YX16_keep 49 [(1, 156), (0, x1), (1, x2), (0, x3), (0, x4), (0, x5), (0, s.1), (0, s.2)] [] (wr M V) o) (P := P) ?_ FU (x6, x7) z h hz
  intro s x hx hP
  exact s_X16_keep_49 hD hM (P := Sum.elim (fun s : Int × Int => Sem g d YX16_keep 49 [(1, 156), (0, x1), (1, x2), (0, x3), (0, x4), (0, x5), (0, s.1), (0, s.2)] [] (wr M V) o) P) (fun s h => h) (fun s h => c0 s h) (fun s h => r0 s h) hx hP
theorem s_X16_keep_44 {g : GG} {d : Nat} (hD : 2 ≤ d) {x1 x2 x3 x4 x5 y0 : Int} {M : MM} (hM : LM M) {V : VV} {o : AV × MM} {P : ((Int × Int) ⊕ (Int × VV)) → Prop} (c0 : ∀ s : Int × Int, P (.inl s) → Sem g d YX16_keep 6 [(1, 156), (0, x1), (1, x2), (0, x3), (0, s.1), (0, s.2), (9, 0), (9, 0)] [] (wr M V) o) (r0 : ∀ r : Int × VV, P (.inr r) → o = ((0, r.1), (wr M r.2))) {z : (Int × Int) ⊕ (Int × VV)} (h : j_X16_keep_44 x1 x2 x3 x4 x5 y0 V = some z) (hz : P z) : Sem g d YX16_keep 44 [(1, 156), (0, x1), (1, x2), (0, x3), (0, x4), (0, x5), (9, 0), (9, 0)] [(0, y0)] (wr M V) o := by
  delta j_X16_keep_44 at h
  refine S_istore dX16_keep_44 (Nat.le_of_ble_eq_true rfl) rfl rfl ?_
  change Sem g d YX16_keep 46 [(1, 156), (0, x1), (1, x2), (0, x3), (0, x4), (0, x5), (0, y0), (9, 0)] [] (wr M V) o
  refine S_iconst dX16_keep_46 rfl ?_
  refine S_istore dX16_keep_47 (Nat.le_of_ble_eq_true rfl) rfl rfl ?_
  change Sem g d YX16_keep 49 [(1, 156), (0, x1), (1, x2), (0, x3), (0, x4), (0, x5), (0, y0), (0, 0)] [] (wr M V) o
  exact sl_X16_keep_49 hD hM c0 r0 h hz
theorem s_X16_keep_6 {g : GG} {d : Nat} (hD : 2 ≤ d) {x1 x2 x3 x4 x5 : Int} {M : MM} (hM : LM M) {V : VV} {o : AV × MM} {P : ((Int × Int) ⊕ (Int × VV)) → Prop} (c0 : ∀ s : Int × Int, P (.inl s) → Sem g d YX16_keep 6 [(1, 156), (0, x1), (1, x2), (0, x3), (0, s.1), (0, s.2), (9, 0), (9, 0)] [] (wr M V) o) (r0 : ∀ r : Int × VV, P (.inr r) → o = ((0, r.1), (wr M r.2))) {z : (Int × Int) ⊕ (Int × VV)} (h : b_X16_keep_6 x1 x2 x3 x4 x5 V = some z) (hz : P z) : Sem g d YX16_keep 6 [(1, 156), (0, x1), (1, x2), (0, x3), (0, x4), (0, x5), (9, 0), (9, 0)] [] (wr M V) o := by
  delta b_X16_keep_6 at h
  refine S_iload dX16_keep_6 rfl ?_
  refine S_aload_n (i := 0) dX16_keep_8 rfl rfl ?_
  refine P2_gfi hM FLX16_565 rfl dX16_keep_9 ?_
  refine P_icmp_ge (tgt := 129) dX16_keep_12 rfl h (fun h => ?_) (fun h => ?_)
  · refine S_weak (ls' := [(1, 156), (0, x1), (1, x2), (0, x3), (0, x4), (9, 0), (9, 0), (9, 0)]) ⟨Or.inr rfl, ⟨Or.inr rfl, ⟨Or.inr rfl, ⟨Or.inr rfl, ⟨Or.inr rfl, ⟨Or.inl rfl, ⟨Or.inl rfl, ⟨Or.inl rfl, trivial⟩⟩⟩⟩⟩⟩⟩⟩ ?_
    obtain ⟨z0, h, hz⟩ := xit_some' (P := fun r => P r) h hz
    exact s_X16_keep_129 hD hM (P := fun r => P (.inr r)) r0 h hz
  · refine S_aload_n (i := 0) dX16_keep_15 rfl rfl ?_
    refine S_iload_n (i := 1) dX16_keep_16 rfl rfl ?_
    refine S_aload_n (i := 2) dX16_keep_17 rfl rfl ?_
    refine S_iload_n (i := 3) dX16_keep_18 rfl rfl ?_
    refine S_aload_n (i := 0) dX16_keep_19 rfl rfl ?_
    refine P2_gfr hM (a := 217) FLX16_198 rfl ⟨rfl, rfl⟩ dX16_keep_20 ?_
    refine S_iload dX16_keep_23 rfl ?_
    refine P2_lai hM (a := 217) (n := 16) rfl dX16_keep_25 h (fun v1 h => ?_)
    refine S_aload_n (i := 0) dX16_keep_26 rfl rfl ?_
    refine P2_gfr hM (a := 218) FLX16_201 rfl ⟨rfl, rfl⟩ dX16_keep_27 ?_
    refine S_iload dX16_keep_30 rfl ?_
    refine P2_lai hM (a := 218) (n := 16) rfl dX16_keep_32 h (fun v2 h => ?_)
    refine P2_invVp hM 0 [(0, x1), (1, x2), (0, x3), (0, v1), (0, v2)] [] CVX16_postingWith MLX16_568 dX16_keep_33 rfl rfl rfl rfl rfl (by omega) h (fun r h => F_X16_postingWith (by omega) hM h) (fun v3 h => ?_)
    refine P_if_lt (tgt := 43) dX16_keep_36 rfl h (fun h => ?_) (fun h => ?_)
    · refine S_iconst dX16_keep_43 rfl ?_
      exact s_X16_keep_44 hD hM c0 r0 h hz
    · refine S_iconst dX16_keep_39 rfl ?_
      refine S_goto (tgt := 44) dX16_keep_40 rfl ?_
      exact s_X16_keep_44 hD hM c0 r0 h hz
theorem sl_X16_keep_6 {g : GG} {d : Nat} (hD : 2 ≤ d) {x1 x2 x3 x4 x5 : Int} {M : MM} (hM : LM M) {V : VV} {o : AV × MM} {P : (Int × VV) → Prop} (r0 : ∀ r : Int × VV, P r → o = ((0, r.1), (wr M r.2))) {z : Int × VV} (h : l_X16_keep_6 x1 x2 x3 x4 x5 V = some z) (hz : P z) : Sem g d YX16_keep 6 [(1, 156), (0, x1), (1, x2), (0, x3), (0, x4), (0, x5), (9, 0), (9, 0)] [] (wr M V) o := by
  refine lp_sound (S := fun s : Int × Int => Sem g d YX16_keep 6 [(1, 156), (0, x1), (1, x2), (0, x3), (0, s.1), (0, s.2), (9, 0), (9, 0)] [] (wr M V) o) (P := P) ?_ FU (x4, x5) z h hz
  intro s x hx hP
  exact s_X16_keep_6 hD hM (P := Sum.elim (fun s : Int × Int => Sem g d YX16_keep 6 [(1, 156), (0, x1), (1, x2), (0, x3), (0, s.1), (0, s.2), (9, 0), (9, 0)] [] (wr M V) o) P) (fun s h => h) (fun s h => r0 s h) hx hP
theorem s_X16_keep_0 {g : GG} {d : Nat} (hD : 2 ≤ d) {x1 x2 x3 : Int} {M : MM} (hM : LM M) {V : VV} {o : AV × MM} {P : (Int × VV) → Prop} (r0 : ∀ r : Int × VV, P r → o = ((0, r.1), (wr M r.2))) {z : Int × VV} (h : f_X16_keep x1 x2 x3 V = some z) (hz : P z) : Sem g d YX16_keep 0 [(1, 156), (0, x1), (1, x2), (0, x3), (9, 0), (9, 0), (9, 0), (9, 0)] [] (wr M V) o := by
  delta f_X16_keep at h
  refine S_iconst dX16_keep_0 rfl ?_
  refine S_istore dX16_keep_1 (Nat.le_of_ble_eq_true rfl) rfl rfl ?_
  change Sem g d YX16_keep 3 [(1, 156), (0, x1), (1, x2), (0, x3), (0, 0), (9, 0), (9, 0), (9, 0)] [] (wr M V) o
  refine S_iconst dX16_keep_3 rfl ?_
  refine S_istore dX16_keep_4 (Nat.le_of_ble_eq_true rfl) rfl rfl ?_
  change Sem g d YX16_keep 6 [(1, 156), (0, x1), (1, x2), (0, x3), (0, 0), (0, 0), (9, 0), (9, 0)] [] (wr M V) o
  exact sl_X16_keep_6 hD hM r0 h hz
theorem F_X16_keep {g : GG} {d : Nat} (hD : 2 ≤ d) {x1 x2 x3 : Int} {M : MM} (hM : LM M) {V : VV} {r : Int × VV} (h : f_X16_keep x1 x2 x3 V = some r) : Sem g d YX16_keep 0 (ini YX16_keep [(1, 156), (0, x1), (1, x2), (0, x3)]) [] (wr M V) ((0, r.1), (wr M r.2)) := by
  change Sem g d YX16_keep 0 [(1, 156), (0, x1), (1, x2), (0, x3), (9, 0), (9, 0), (9, 0), (9, 0)] [] (wr M V) ((0, r.1), (wr M r.2))
  exact s_X16_keep_0 hD hM (P := fun x => x = r) (fun q e => by rw [e]) h rfl
/-! PeerSearchModel.stored(IZ)V -/
theorem dX16_stored_0 : decode cX16_stored 0 = .ok (.iload_n 2, 1) := by decide +kernel
theorem dX16_stored_1 : decode cX16_stored 1 = .ok (.ifCond .eq 27, 3) := by decide +kernel
theorem dX16_stored_4 : decode cX16_stored 4 = .ok (.aload_n 0, 1) := by decide +kernel
theorem dX16_stored_5 : decode cX16_stored 5 = .ok (.getfield 234, 3) := by decide +kernel
theorem dX16_stored_8 : decode cX16_stored 8 = .ok (.iload_n 1, 1) := by decide +kernel
theorem dX16_stored_9 : decode cX16_stored 9 = .ok (.iaload, 1) := by decide +kernel
theorem dX16_stored_10 : decode cX16_stored 10 = .ok (.ifCond .lt 18, 3) := by decide +kernel
theorem dX16_stored_13 : decode cX16_stored 13 = .ok (.aload_n 0, 1) := by decide +kernel
theorem dX16_stored_14 : decode cX16_stored 14 = .ok (.getfield 354, 3) := by decide +kernel
theorem dX16_stored_17 : decode cX16_stored 17 = .ok (.aload_n 0, 1) := by decide +kernel
theorem dX16_stored_18 : decode cX16_stored 18 = .ok (.getfield 234, 3) := by decide +kernel
theorem dX16_stored_21 : decode cX16_stored 21 = .ok (.iload_n 1, 1) := by decide +kernel
theorem dX16_stored_22 : decode cX16_stored 22 = .ok (.iaload, 1) := by decide +kernel
theorem dX16_stored_23 : decode cX16_stored 23 = .ok (.dup2, 1) := by decide +kernel
theorem dX16_stored_24 : decode cX16_stored 24 = .ok (.iaload, 1) := by decide +kernel
theorem dX16_stored_25 : decode cX16_stored 25 = .ok (.iconst 1, 1) := by decide +kernel
theorem dX16_stored_26 : decode cX16_stored 26 = .ok (.iadd, 1) := by decide +kernel
theorem dX16_stored_27 : decode cX16_stored 27 = .ok (.iastore, 1) := by decide +kernel
theorem dX16_stored_28 : decode cX16_stored 28 = .ok (.aload_n 0, 1) := by decide +kernel
theorem dX16_stored_29 : decode cX16_stored 29 = .ok (.getfield 285, 3) := by decide +kernel
theorem dX16_stored_32 : decode cX16_stored 32 = .ok (.iload_n 1, 1) := by decide +kernel
theorem dX16_stored_33 : decode cX16_stored 33 = .ok (.aload_n 0, 1) := by decide +kernel
theorem dX16_stored_34 : decode cX16_stored 34 = .ok (.getfield 285, 3) := by decide +kernel
theorem dX16_stored_37 : decode cX16_stored 37 = .ok (.iload_n 1, 1) := by decide +kernel
theorem dX16_stored_38 : decode cX16_stored 38 = .ok (.baload, 1) := by decide +kernel
theorem dX16_stored_39 : decode cX16_stored 39 = .ok (.ifCond .ne 7, 3) := by decide +kernel
theorem dX16_stored_42 : decode cX16_stored 42 = .ok (.iload_n 2, 1) := by decide +kernel
theorem dX16_stored_43 : decode cX16_stored 43 = .ok (.ifCond .ne 7, 3) := by decide +kernel
theorem dX16_stored_46 : decode cX16_stored 46 = .ok (.iconst 1, 1) := by decide +kernel
theorem dX16_stored_47 : decode cX16_stored 47 = .ok (.goto 4, 3) := by decide +kernel
theorem dX16_stored_50 : decode cX16_stored 50 = .ok (.iconst 0, 1) := by decide +kernel
theorem dX16_stored_51 : decode cX16_stored 51 = .ok (.bastore, 1) := by decide +kernel
theorem dX16_stored_52 : decode cX16_stored 52 = .ok (.return_, 1) := by decide +kernel
def j_X16_stored_51 (y1 y2 : Int) (V : VV) : Option (VV) :=
  (s2z 246 44 y1 y2 V).bind fun V1 =>
  some V1
def j_X16_stored_46 (y1 : Int) (V : VV) : Option (VV) :=
  j_X16_stored_51 y1 1 V
def j_X16_stored_28 (x1 x2 : Int) (V : VV) : Option (VV) :=
  (l2 246 44 x1 V).bind fun v1 =>
  if w32 v1 = 0 then
    if w32 x2 = 0 then
      j_X16_stored_46 x1 V
    else
      j_X16_stored_51 x1 0 V
  else
    j_X16_stored_46 x1 V
def f_X16_stored (x1 x2 : Int) (V : VV) : Option (VV) :=
  if w32 x2 = 0 then
    j_X16_stored_28 x1 x2 V
  else
    (l2 229 44 x1 V).bind fun v1 =>
    if w32 v1 < 0 then
      j_X16_stored_28 x1 x2 V
    else
      (l2 229 44 x1 V).bind fun v2 =>
      (l2 269 256 v2 V).bind fun v3 =>
      (s2 269 256 v2 (v3 + 1) V).bind fun V1 =>
      j_X16_stored_28 x1 x2 V1
theorem s_X16_stored_51 {g : GG} {d : Nat} (hD : 0 ≤ d) {y1 y2 : Int} {M : MM} (hM : LM M) {V : VV} {o : AV × MM} {P : (VV) → Prop} (r0 : ∀ r : VV, P r → o = ((9, 0), (wr M r))) {z : VV} (h : j_X16_stored_51 y1 y2 V = some z) (hz : P z) : Sem g d YX16_stored 51 [(9, 0), (9, 0), (9, 0)] [(0, y2), (0, y1), (1, 246)] (wr M V) o := by
  delta j_X16_stored_51 at h
  refine P2_saz hM (a := 246) (n := 44) rfl dX16_stored_51 h (fun V1 h => ?_)
  obtain rfl := r0 _ (some_P (P := fun r => P r) h hz)
  exact S_return dX16_stored_52 rfl
theorem s_X16_stored_46 {g : GG} {d : Nat} (hD : 0 ≤ d) {y1 : Int} {M : MM} (hM : LM M) {V : VV} {o : AV × MM} {P : (VV) → Prop} (r0 : ∀ r : VV, P r → o = ((9, 0), (wr M r))) {z : VV} (h : j_X16_stored_46 y1 V = some z) (hz : P z) : Sem g d YX16_stored 46 [(9, 0), (9, 0), (9, 0)] [(0, y1), (1, 246)] (wr M V) o := by
  delta j_X16_stored_46 at h
  refine S_iconst dX16_stored_46 rfl ?_
  refine S_goto (tgt := 51) dX16_stored_47 rfl ?_
  exact s_X16_stored_51 hD hM r0 h hz
theorem s_X16_stored_28 {g : GG} {d : Nat} (hD : 0 ≤ d) {x1 x2 : Int} {M : MM} (hM : LM M) {V : VV} {o : AV × MM} {P : (VV) → Prop} (r0 : ∀ r : VV, P r → o = ((9, 0), (wr M r))) {z : VV} (h : j_X16_stored_28 x1 x2 V = some z) (hz : P z) : Sem g d YX16_stored 28 [(1, 156), (0, x1), (0, x2)] [] (wr M V) o := by
  delta j_X16_stored_28 at h
  refine S_aload_n (i := 0) dX16_stored_28 rfl rfl ?_
  refine P2_gfr hM (a := 246) FLX16_285 rfl ⟨rfl, rfl⟩ dX16_stored_29 ?_
  refine S_iload_n (i := 1) dX16_stored_32 rfl rfl ?_
  refine S_aload_n (i := 0) dX16_stored_33 rfl rfl ?_
  refine P2_gfr hM (a := 246) FLX16_285 rfl ⟨rfl, rfl⟩ dX16_stored_34 ?_
  refine S_iload_n (i := 1) dX16_stored_37 rfl rfl ?_
  refine P2_laz hM (a := 246) (n := 44) rfl dX16_stored_38 h (fun v1 h => ?_)
  refine P_if_ne (tgt := 46) dX16_stored_39 rfl h (fun h => ?_) (fun h => ?_)
  · refine S_weak (ls' := [(9, 0), (9, 0), (9, 0)]) ⟨Or.inl rfl, ⟨Or.inl rfl, ⟨Or.inl rfl, trivial⟩⟩⟩ ?_
    exact s_X16_stored_46 hD hM r0 h hz
  · refine S_iload_n (i := 2) dX16_stored_42 rfl rfl ?_
    refine P_if_ne (tgt := 50) dX16_stored_43 rfl h (fun h => ?_) (fun h => ?_)
    · refine S_iconst dX16_stored_50 rfl ?_
      refine S_weak (ls' := [(9, 0), (9, 0), (9, 0)]) ⟨Or.inl rfl, ⟨Or.inl rfl, ⟨Or.inl rfl, trivial⟩⟩⟩ ?_
      exact s_X16_stored_51 hD hM r0 h hz
    · refine S_weak (ls' := [(9, 0), (9, 0), (9, 0)]) ⟨Or.inl rfl, ⟨Or.inl rfl, ⟨Or.inl rfl, trivial⟩⟩⟩ ?_
      exact s_X16_stored_46 hD hM r0 h hz
theorem s_X16_stored_0 {g : GG} {d : Nat} (hD : 0 ≤ d) {x1 x2 : Int} {M : MM} (hM : LM M) {V : VV} {o : AV × MM} {P : (VV) → Prop} (r0 : ∀ r : VV, P r → o = ((9, 0), (wr M r))) {z : VV} (h : f_X16_stored x1 x2 V = some z) (hz : P z) : Sem g d YX16_stored 0 [(1, 156), (0, x1), (0, x2)] [] (wr M V) o := by
  delta f_X16_stored at h
  refine S_iload_n (i := 2) dX16_stored_0 rfl rfl ?_
  refine P_if_eq (tgt := 28) dX16_stored_1 rfl h (fun h => ?_) (fun h => ?_)
  · exact s_X16_stored_28 hD hM r0 h hz
  · refine S_aload_n (i := 0) dX16_stored_4 rfl rfl ?_
    refine P2_gfr hM (a := 229) FLX16_234 rfl ⟨rfl, rfl⟩ dX16_stored_5 ?_
    refine S_iload_n (i := 1) dX16_stored_8 rfl rfl ?_
    refine P2_lai hM (a := 229) (n := 44) rfl dX16_stored_9 h (fun v1 h => ?_)
    refine P_if_lt (tgt := 28) dX16_stored_10 rfl h (fun h => ?_) (fun h => ?_)
    · exact s_X16_stored_28 hD hM r0 h hz
    · refine S_aload_n (i := 0) dX16_stored_13 rfl rfl ?_
      refine P2_gfr hM (a := 269) FLX16_354 rfl ⟨rfl, rfl⟩ dX16_stored_14 ?_
      refine S_aload_n (i := 0) dX16_stored_17 rfl rfl ?_
      refine P2_gfr hM (a := 229) FLX16_234 rfl ⟨rfl, rfl⟩ dX16_stored_18 ?_
      refine S_iload_n (i := 1) dX16_stored_21 rfl rfl ?_
      refine P2_lai hM (a := 229) (n := 44) rfl dX16_stored_22 h (fun v2 h => ?_)
      refine S_dup2 dX16_stored_23 (Nat.le_of_ble_eq_true rfl) (Nat.le_of_ble_eq_true rfl) ?_
      refine P2_lai hM (a := 269) (n := 256) rfl dX16_stored_24 h (fun v3 h => ?_)
      refine S_iconst dX16_stored_25 rfl ?_
      refine S_iadd dX16_stored_26 ?_
      refine P2_sai hM (a := 269) (n := 256) rfl dX16_stored_27 h (fun V1 h => ?_)
      exact s_X16_stored_28 hD hM r0 h hz
theorem F_X16_stored {g : GG} {d : Nat} (hD : 0 ≤ d) {x1 x2 : Int} {M : MM} (hM : LM M) {V : VV} {r : VV} (h : f_X16_stored x1 x2 V = some r) : Sem g d YX16_stored 0 (ini YX16_stored [(1, 156), (0, x1), (0, x2)]) [] (wr M V) ((9, 0), (wr M r)) := by
  change Sem g d YX16_stored 0 [(1, 156), (0, x1), (0, x2)] [] (wr M V) ((9, 0), (wr M r))
  exact s_X16_stored_0 hD hM (P := fun x => x = r) (fun q e => by rw [e]) h rfl
/-! PeerSearchModel.storeAll(I)V -/
theorem dX16_storeAll_0 : decode cX16_storeAll 0 = .ok (.aload_n 0, 1) := by decide +kernel
theorem dX16_storeAll_1 : decode cX16_storeAll 1 = .ok (.getfield 231, 3) := by decide +kernel
theorem dX16_storeAll_4 : decode cX16_storeAll 4 = .ok (.iload_n 1, 1) := by decide +kernel
theorem dX16_storeAll_5 : decode cX16_storeAll 5 = .ok (.iaload, 1) := by decide +kernel
theorem dX16_storeAll_6 : decode cX16_storeAll 6 = .ok (.istore_n 2, 1) := by decide +kernel
theorem dX16_storeAll_7 : decode cX16_storeAll 7 = .ok (.iconst 5, 1) := by decide +kernel
theorem dX16_storeAll_8 : decode cX16_storeAll 8 = .ok (.bipush 64, 2) := by decide +kernel
theorem dX16_storeAll_10 : decode cX16_storeAll 10 = .ok (.iload_n 2, 1) := by decide +kernel
theorem dX16_storeAll_11 : decode cX16_storeAll 11 = .ok (.imul, 1) := by decide +kernel
theorem dX16_storeAll_12 : decode cX16_storeAll 12 = .ok (.aload_n 0, 1) := by decide +kernel
theorem dX16_storeAll_13 : decode cX16_storeAll 13 = .ok (.getfield 279, 3) := by decide +kernel
theorem dX16_storeAll_16 : decode cX16_storeAll 16 = .ok (.iload_n 1, 1) := by decide +kernel
theorem dX16_storeAll_17 : decode cX16_storeAll 17 = .ok (.iaload, 1) := by decide +kernel
theorem dX16_storeAll_18 : decode cX16_storeAll 18 = .ok (.iadd, 1) := by decide +kernel
theorem dX16_storeAll_19 : decode cX16_storeAll 19 = .ok (.imul, 1) := by decide +kernel
theorem dX16_storeAll_20 : decode cX16_storeAll 20 = .ok (.istore_n 3, 1) := by decide +kernel
theorem dX16_storeAll_21 : decode cX16_storeAll 21 = .ok (.aload_n 0, 1) := by decide +kernel
theorem dX16_storeAll_22 : decode cX16_storeAll 22 = .ok (.getfield 240, 3) := by decide +kernel
theorem dX16_storeAll_25 : decode cX16_storeAll 25 = .ok (.iload_n 1, 1) := by decide +kernel
theorem dX16_storeAll_26 : decode cX16_storeAll 26 = .ok (.dup2, 1) := by decide +kernel
theorem dX16_storeAll_27 : decode cX16_storeAll 27 = .ok (.iaload, 1) := by decide +kernel
theorem dX16_storeAll_28 : decode cX16_storeAll 28 = .ok (.iconst 1, 1) := by decide +kernel
theorem dX16_storeAll_29 : decode cX16_storeAll 29 = .ok (.iadd, 1) := by decide +kernel
theorem dX16_storeAll_30 : decode cX16_storeAll 30 = .ok (.iastore, 1) := by decide +kernel
theorem dX16_storeAll_31 : decode cX16_storeAll 31 = .ok (.aload_n 0, 1) := by decide +kernel
theorem dX16_storeAll_32 : decode cX16_storeAll 32 = .ok (.getfield 237, 3) := by decide +kernel
theorem dX16_storeAll_35 : decode cX16_storeAll 35 = .ok (.iload_n 1, 1) := by decide +kernel
theorem dX16_storeAll_36 : decode cX16_storeAll 36 = .ok (.iconst 2, 1) := by decide +kernel
theorem dX16_storeAll_37 : decode cX16_storeAll 37 = .ok (.iastore, 1) := by decide +kernel
theorem dX16_storeAll_38 : decode cX16_storeAll 38 = .ok (.aload_n 0, 1) := by decide +kernel
theorem dX16_storeAll_39 : decode cX16_storeAll 39 = .ok (.getfield 282, 3) := by decide +kernel
theorem dX16_storeAll_42 : decode cX16_storeAll 42 = .ok (.iload_n 1, 1) := by decide +kernel
theorem dX16_storeAll_43 : decode cX16_storeAll 43 = .ok (.iconst 0, 1) := by decide +kernel
theorem dX16_storeAll_44 : decode cX16_storeAll 44 = .ok (.iastore, 1) := by decide +kernel
theorem dX16_storeAll_45 : decode cX16_storeAll 45 = .ok (.iconst 0, 1) := by decide +kernel
theorem dX16_storeAll_46 : decode cX16_storeAll 46 = .ok (.istore 4, 2) := by decide +kernel
theorem dX16_storeAll_48 : decode cX16_storeAll 48 = .ok (.iload 4, 2) := by decide +kernel
theorem dX16_storeAll_50 : decode cX16_storeAll 50 = .ok (.aload_n 0, 1) := by decide +kernel
theorem dX16_storeAll_51 : decode cX16_storeAll 51 = .ok (.getfield 628, 3) := by decide +kernel
theorem dX16_storeAll_54 : decode cX16_storeAll 54 = .ok (.if_icmp .ge 271, 3) := by decide +kernel
theorem dX16_storeAll_57 : decode cX16_storeAll 57 = .ok (.aload_n 0, 1) := by decide +kernel
theorem dX16_storeAll_58 : decode cX16_storeAll 58 = .ok (.getfield 267, 3) := by decide +kernel
theorem dX16_storeAll_61 : decode cX16_storeAll 61 = .ok (.iload 4, 2) := by decide +kernel
theorem dX16_storeAll_63 : decode cX16_storeAll 63 = .ok (.iaload, 1) := by decide +kernel
theorem dX16_storeAll_64 : decode cX16_storeAll 64 = .ok (.istore 5, 2) := by decide +kernel
theorem dX16_storeAll_66 : decode cX16_storeAll 66 = .ok (.aload_n 0, 1) := by decide +kernel
theorem dX16_storeAll_67 : decode cX16_storeAll 67 = .ok (.iconst 0, 1) := by decide +kernel
theorem dX16_storeAll_68 : decode cX16_storeAll 68 = .ok (.putfield 565, 3) := by decide +kernel
theorem dX16_storeAll_71 : decode cX16_storeAll 71 = .ok (.iconst 0, 1) := by decide +kernel
theorem dX16_storeAll_72 : decode cX16_storeAll 72 = .ok (.istore 6, 2) := by decide +kernel
theorem dX16_storeAll_74 : decode cX16_storeAll 74 = .ok (.iload 6, 2) := by decide +kernel
theorem dX16_storeAll_76 : decode cX16_storeAll 76 = .ok (.aload_n 0, 1) := by decide +kernel
theorem dX16_storeAll_77 : decode cX16_storeAll 77 = .ok (.getfield 276, 3) := by decide +kernel
theorem dX16_storeAll_80 : decode cX16_storeAll 80 = .ok (.iload_n 1, 1) := by decide +kernel
theorem dX16_storeAll_81 : decode cX16_storeAll 81 = .ok (.iaload, 1) := by decide +kernel
theorem dX16_storeAll_82 : decode cX16_storeAll 82 = .ok (.if_icmp .ge 81, 3) := by decide +kernel
theorem dX16_storeAll_85 : decode cX16_storeAll 85 = .ok (.aload_n 0, 1) := by decide +kernel
theorem dX16_storeAll_86 : decode cX16_storeAll 86 = .ok (.getfield 76, 3) := by decide +kernel
theorem dX16_storeAll_89 : decode cX16_storeAll 89 = .ok (.sipush 1024, 3) := by decide +kernel
theorem dX16_storeAll_92 : decode cX16_storeAll 92 = .ok (.iload_n 2, 1) := by decide +kernel
theorem dX16_storeAll_93 : decode cX16_storeAll 93 = .ok (.imul, 1) := by decide +kernel
theorem dX16_storeAll_94 : decode cX16_storeAll 94 = .ok (.bipush 64, 2) := by decide +kernel
theorem dX16_storeAll_96 : decode cX16_storeAll 96 = .ok (.iload 6, 2) := by decide +kernel
theorem dX16_storeAll_98 : decode cX16_storeAll 98 = .ok (.imul, 1) := by decide +kernel
theorem dX16_storeAll_99 : decode cX16_storeAll 99 = .ok (.iadd, 1) := by decide +kernel
theorem dX16_storeAll_100 : decode cX16_storeAll 100 = .ok (.aload_n 0, 1) := by decide +kernel
theorem dX16_storeAll_101 : decode cX16_storeAll 101 = .ok (.getfield 279, 3) := by decide +kernel
theorem dX16_storeAll_104 : decode cX16_storeAll 104 = .ok (.iload_n 1, 1) := by decide +kernel
theorem dX16_storeAll_105 : decode cX16_storeAll 105 = .ok (.iaload, 1) := by decide +kernel
theorem dX16_storeAll_106 : decode cX16_storeAll 106 = .ok (.iadd, 1) := by decide +kernel
theorem dX16_storeAll_107 : decode cX16_storeAll 107 = .ok (.iaload, 1) := by decide +kernel
theorem dX16_storeAll_108 : decode cX16_storeAll 108 = .ok (.istore 7, 2) := by decide +kernel
theorem dX16_storeAll_110 : decode cX16_storeAll 110 = .ok (.iload 7, 2) := by decide +kernel
theorem dX16_storeAll_112 : decode cX16_storeAll 112 = .ok (.ifCond .le 45, 3) := by decide +kernel
theorem dX16_storeAll_115 : decode cX16_storeAll 115 = .ok (.aload_n 0, 1) := by decide +kernel
theorem dX16_storeAll_116 : decode cX16_storeAll 116 = .ok (.getfield 198, 3) := by decide +kernel
theorem dX16_storeAll_119 : decode cX16_storeAll 119 = .ok (.aload_n 0, 1) := by decide +kernel
theorem dX16_storeAll_120 : decode cX16_storeAll 120 = .ok (.getfield 565, 3) := by decide +kernel
theorem dX16_storeAll_123 : decode cX16_storeAll 123 = .ok (.iload_n 2, 1) := by decide +kernel
theorem dX16_storeAll_124 : decode cX16_storeAll 124 = .ok (.iastore, 1) := by decide +kernel
theorem dX16_storeAll_125 : decode cX16_storeAll 125 = .ok (.aload_n 0, 1) := by decide +kernel
theorem dX16_storeAll_126 : decode cX16_storeAll 126 = .ok (.getfield 201, 3) := by decide +kernel
theorem dX16_storeAll_129 : decode cX16_storeAll 129 = .ok (.aload_n 0, 1) := by decide +kernel
theorem dX16_storeAll_130 : decode cX16_storeAll 130 = .ok (.getfield 565, 3) := by decide +kernel
theorem dX16_storeAll_133 : decode cX16_storeAll 133 = .ok (.iload 6, 2) := by decide +kernel
theorem dX16_storeAll_135 : decode cX16_storeAll 135 = .ok (.iastore, 1) := by decide +kernel
theorem dX16_storeAll_136 : decode cX16_storeAll 136 = .ok (.aload_n 0, 1) := by decide +kernel
theorem dX16_storeAll_137 : decode cX16_storeAll 137 = .ok (.getfield 204, 3) := by decide +kernel
theorem dX16_storeAll_140 : decode cX16_storeAll 140 = .ok (.aload_n 0, 1) := by decide +kernel
theorem dX16_storeAll_141 : decode cX16_storeAll 141 = .ok (.getfield 565, 3) := by decide +kernel
theorem dX16_storeAll_144 : decode cX16_storeAll 144 = .ok (.iload 7, 2) := by decide +kernel
theorem dX16_storeAll_146 : decode cX16_storeAll 146 = .ok (.iastore, 1) := by decide +kernel
theorem dX16_storeAll_147 : decode cX16_storeAll 147 = .ok (.aload_n 0, 1) := by decide +kernel
theorem dX16_storeAll_148 : decode cX16_storeAll 148 = .ok (.dup, 1) := by decide +kernel
theorem dX16_storeAll_149 : decode cX16_storeAll 149 = .ok (.getfield 565, 3) := by decide +kernel
theorem dX16_storeAll_152 : decode cX16_storeAll 152 = .ok (.iconst 1, 1) := by decide +kernel
theorem dX16_storeAll_153 : decode cX16_storeAll 153 = .ok (.iadd, 1) := by decide +kernel
theorem dX16_storeAll_154 : decode cX16_storeAll 154 = .ok (.putfield 565, 3) := by decide +kernel
theorem dX16_storeAll_157 : decode cX16_storeAll 157 = .ok (.iinc 6 1, 3) := by decide +kernel
theorem dX16_storeAll_160 : decode cX16_storeAll 160 = .ok (.goto (-86), 3) := by decide +kernel
theorem dX16_storeAll_163 : decode cX16_storeAll 163 = .ok (.aload_n 0, 1) := by decide +kernel
theorem dX16_storeAll_164 : decode cX16_storeAll 164 = .ok (.getfield 252, 3) := by decide +kernel
theorem dX16_storeAll_167 : decode cX16_storeAll 167 = .ok (.iconst 5, 1) := by decide +kernel
theorem dX16_storeAll_168 : decode cX16_storeAll 168 = .ok (.iload 5, 2) := by decide +kernel
theorem dX16_storeAll_170 : decode cX16_storeAll 170 = .ok (.imul, 1) := by decide +kernel
theorem dX16_storeAll_171 : decode cX16_storeAll 171 = .ok (.aload_n 0, 1) := by decide +kernel
theorem dX16_storeAll_172 : decode cX16_storeAll 172 = .ok (.getfield 36, 3) := by decide +kernel
theorem dX16_storeAll_175 : decode cX16_storeAll 175 = .ok (.iconst 5, 1) := by decide +kernel
theorem dX16_storeAll_176 : decode cX16_storeAll 176 = .ok (.iload_n 2, 1) := by decide +kernel
theorem dX16_storeAll_177 : decode cX16_storeAll 177 = .ok (.imul, 1) := by decide +kernel
theorem dX16_storeAll_178 : decode cX16_storeAll 178 = .ok (.invokestatic 434, 3) := by decide +kernel
theorem dX16_storeAll_181 : decode cX16_storeAll 181 = .ok (.ifCond .eq 25, 3) := by decide +kernel
theorem dX16_storeAll_184 : decode cX16_storeAll 184 = .ok (.aload_n 0, 1) := by decide +kernel
theorem dX16_storeAll_185 : decode cX16_storeAll 185 = .ok (.iload_n 2, 1) := by decide +kernel
theorem dX16_storeAll_186 : decode cX16_storeAll 186 = .ok (.aload_n 0, 1) := by decide +kernel
theorem dX16_storeAll_187 : decode cX16_storeAll 187 = .ok (.getfield 72, 3) := by decide +kernel
theorem dX16_storeAll_190 : decode cX16_storeAll 190 = .ok (.iload_n 3, 1) := by decide +kernel
theorem dX16_storeAll_191 : decode cX16_storeAll 191 = .ok (.invokevirtual 678, 3) := by decide +kernel
theorem dX16_storeAll_194 : decode cX16_storeAll 194 = .ok (.istore 6, 2) := by decide +kernel
theorem dX16_storeAll_196 : decode cX16_storeAll 196 = .ok (.aload_n 0, 1) := by decide +kernel
theorem dX16_storeAll_197 : decode cX16_storeAll 197 = .ok (.iload_n 1, 1) := by decide +kernel
theorem dX16_storeAll_198 : decode cX16_storeAll 198 = .ok (.iload 6, 2) := by decide +kernel
theorem dX16_storeAll_200 : decode cX16_storeAll 200 = .ok (.invokevirtual 682, 3) := by decide +kernel
theorem dX16_storeAll_203 : decode cX16_storeAll 203 = .ok (.goto 116, 3) := by decide +kernel
theorem dX16_storeAll_206 : decode cX16_storeAll 206 = .ok (.aload_n 0, 1) := by decide +kernel
theorem dX16_storeAll_207 : decode cX16_storeAll 207 = .ok (.aload_n 0, 1) := by decide +kernel
theorem dX16_storeAll_208 : decode cX16_storeAll 208 = .ok (.getfield 72, 3) := by decide +kernel
theorem dX16_storeAll_211 : decode cX16_storeAll 211 = .ok (.iload_n 3, 1) := by decide +kernel
theorem dX16_storeAll_212 : decode cX16_storeAll 212 = .ok (.invokevirtual 634, 3) := by decide +kernel
theorem dX16_storeAll_215 : decode cX16_storeAll 215 = .ok (.aload_n 0, 1) := by decide +kernel
theorem dX16_storeAll_216 : decode cX16_storeAll 216 = .ok (.aload_n 0, 1) := by decide +kernel
theorem dX16_storeAll_217 : decode cX16_storeAll 217 = .ok (.getfield 565, 3) := by decide +kernel
theorem dX16_storeAll_220 : decode cX16_storeAll 220 = .ok (.invokevirtual 547, 3) := by decide +kernel
theorem dX16_storeAll_223 : decode cX16_storeAll 223 = .ok (.iconst 0, 1) := by decide +kernel
theorem dX16_storeAll_224 : decode cX16_storeAll 224 = .ok (.istore 6, 2) := by decide +kernel
theorem dX16_storeAll_226 : decode cX16_storeAll 226 = .ok (.iload 6, 2) := by decide +kernel
theorem dX16_storeAll_228 : decode cX16_storeAll 228 = .ok (.aload_n 0, 1) := by decide +kernel
theorem dX16_storeAll_229 : decode cX16_storeAll 229 = .ok (.getfield 565, 3) := by decide +kernel
theorem dX16_storeAll_232 : decode cX16_storeAll 232 = .ok (.if_icmp .ge 42, 3) := by decide +kernel
theorem dX16_storeAll_235 : decode cX16_storeAll 235 = .ok (.aload_n 0, 1) := by decide +kernel
theorem dX16_storeAll_236 : decode cX16_storeAll 236 = .ok (.aload_n 0, 1) := by decide +kernel
theorem dX16_storeAll_237 : decode cX16_storeAll 237 = .ok (.getfield 198, 3) := by decide +kernel
theorem dX16_storeAll_240 : decode cX16_storeAll 240 = .ok (.iload 6, 2) := by decide +kernel
theorem dX16_storeAll_242 : decode cX16_storeAll 242 = .ok (.iaload, 1) := by decide +kernel
theorem dX16_storeAll_243 : decode cX16_storeAll 243 = .ok (.invokevirtual 547, 3) := by decide +kernel
theorem dX16_storeAll_246 : decode cX16_storeAll 246 = .ok (.aload_n 0, 1) := by decide +kernel
theorem dX16_storeAll_247 : decode cX16_storeAll 247 = .ok (.aload_n 0, 1) := by decide +kernel
theorem dX16_storeAll_248 : decode cX16_storeAll 248 = .ok (.getfield 201, 3) := by decide +kernel
theorem dX16_storeAll_251 : decode cX16_storeAll 251 = .ok (.iload 6, 2) := by decide +kernel
theorem dX16_storeAll_253 : decode cX16_storeAll 253 = .ok (.iaload, 1) := by decide +kernel
theorem dX16_storeAll_254 : decode cX16_storeAll 254 = .ok (.invokevirtual 547, 3) := by decide +kernel
theorem dX16_storeAll_257 : decode cX16_storeAll 257 = .ok (.aload_n 0, 1) := by decide +kernel
theorem dX16_storeAll_258 : decode cX16_storeAll 258 = .ok (.aload_n 0, 1) := by decide +kernel
theorem dX16_storeAll_259 : decode cX16_storeAll 259 = .ok (.getfield 204, 3) := by decide +kernel
theorem dX16_storeAll_262 : decode cX16_storeAll 262 = .ok (.iload 6, 2) := by decide +kernel
theorem dX16_storeAll_264 : decode cX16_storeAll 264 = .ok (.iaload, 1) := by decide +kernel
theorem dX16_storeAll_265 : decode cX16_storeAll 265 = .ok (.invokevirtual 547, 3) := by decide +kernel
theorem dX16_storeAll_268 : decode cX16_storeAll 268 = .ok (.iinc 6 1, 3) := by decide +kernel
theorem dX16_storeAll_271 : decode cX16_storeAll 271 = .ok (.goto (-45), 3) := by decide +kernel
theorem dX16_storeAll_274 : decode cX16_storeAll 274 = .ok (.aload_n 0, 1) := by decide +kernel
theorem dX16_storeAll_275 : decode cX16_storeAll 275 = .ok (.iload_n 1, 1) := by decide +kernel
theorem dX16_storeAll_276 : decode cX16_storeAll 276 = .ok (.aload_n 0, 1) := by decide +kernel
theorem dX16_storeAll_277 : decode cX16_storeAll 277 = .ok (.getfield 255, 3) := by decide +kernel
theorem dX16_storeAll_280 : decode cX16_storeAll 280 = .ok (.iload 5, 2) := by decide +kernel
theorem dX16_storeAll_282 : decode cX16_storeAll 282 = .ok (.iaload, 1) := by decide +kernel
theorem dX16_storeAll_283 : decode cX16_storeAll 283 = .ok (.aload_n 0, 1) := by decide +kernel
theorem dX16_storeAll_284 : decode cX16_storeAll 284 = .ok (.getfield 252, 3) := by decide +kernel
theorem dX16_storeAll_287 : decode cX16_storeAll 287 = .ok (.iconst 5, 1) := by decide +kernel
theorem dX16_storeAll_288 : decode cX16_storeAll 288 = .ok (.iload 5, 2) := by decide +kernel
theorem dX16_storeAll_290 : decode cX16_storeAll 290 = .ok (.imul, 1) := by decide +kernel
theorem dX16_storeAll_291 : decode cX16_storeAll 291 = .ok (.bipush 7, 2) := by decide +kernel
theorem dX16_storeAll_293 : decode cX16_storeAll 293 = .ok (.invokevirtual 637, 3) := by decide +kernel
theorem dX16_storeAll_296 : decode cX16_storeAll 296 = .ok (.ifCond .eq 16, 3) := by decide +kernel
theorem dX16_storeAll_299 : decode cX16_storeAll 299 = .ok (.aload_n 0, 1) := by decide +kernel
theorem dX16_storeAll_300 : decode cX16_storeAll 300 = .ok (.getfield 282, 3) := by decide +kernel
theorem dX16_storeAll_303 : decode cX16_storeAll 303 = .ok (.iload_n 1, 1) := by decide +kernel
theorem dX16_storeAll_304 : decode cX16_storeAll 304 = .ok (.dup2, 1) := by decide +kernel
theorem dX16_storeAll_305 : decode cX16_storeAll 305 = .ok (.iaload, 1) := by decide +kernel
theorem dX16_storeAll_306 : decode cX16_storeAll 306 = .ok (.iconst 1, 1) := by decide +kernel
theorem dX16_storeAll_307 : decode cX16_storeAll 307 = .ok (.iadd, 1) := by decide +kernel
theorem dX16_storeAll_308 : decode cX16_storeAll 308 = .ok (.iastore, 1) := by decide +kernel
theorem dX16_storeAll_309 : decode cX16_storeAll 309 = .ok (.goto 10, 3) := by decide +kernel
theorem dX16_storeAll_312 : decode cX16_storeAll 312 = .ok (.aload_n 0, 1) := by decide +kernel
theorem dX16_storeAll_313 : decode cX16_storeAll 313 = .ok (.getfield 285, 3) := by decide +kernel
theorem dX16_storeAll_316 : decode cX16_storeAll 316 = .ok (.iload_n 1, 1) := by decide +kernel
theorem dX16_storeAll_317 : decode cX16_storeAll 317 = .ok (.iconst 1, 1) := by decide +kernel
theorem dX16_storeAll_318 : decode cX16_storeAll 318 = .ok (.bastore, 1) := by decide +kernel
theorem dX16_storeAll_319 : decode cX16_storeAll 319 = .ok (.iinc 4 1, 3) := by decide +kernel
theorem dX16_storeAll_322 : decode cX16_storeAll 322 = .ok (.goto (-274), 3) := by decide +kernel
theorem dX16_storeAll_325 : decode cX16_storeAll 325 = .ok (.return_, 1) := by decide +kernel
def j_X16_storeAll_319 (x1 x2 x3 x4 : Int) (V : VV) : Option ((Int × VV) ⊕ (VV)) :=
  cnt (x4 + 1, V)
def j_X16_storeAll_274 (x1 x2 x3 x4 x5 : Int) (V : VV) : Option ((Int × VV) ⊕ (VV)) :=
  (l2 236 2860 x5 V).bind fun v1 =>
  (f_X16_askFor x1 v1 235 (5 * x5) 7 V).bind fun r1 =>
  if w32 r1.1 = 0 then
    (s2z 246 44 x1 1 r1.2).bind fun V1 =>
    j_X16_storeAll_319 x1 x2 x3 x4 V1
  else
    (l2 245 44 x1 r1.2).bind fun v2 =>
    (s2 245 44 x1 (v2 + 1) r1.2).bind fun V2 =>
    j_X16_storeAll_319 x1 x2 x3 x4 V2
def b_X16_storeAll_226 (x1 x2 x3 x4 x5 x6 : Int) (V : VV) : Option ((Int × VV) ⊕ ((Int × VV) ⊕ (VV))) :=
  if w32 x6 < w32 (w32 (V 156 74)) then
    (l2 217 16 x6 V).bind fun v1 =>
    (f_X16_bodyByte v1 V).bind fun V1 =>
    (l2 218 16 x6 V1).bind fun v2 =>
    (f_X16_bodyByte v2 V1).bind fun V2 =>
    (l2 219 16 x6 V2).bind fun v3 =>
    (f_X16_bodyByte v3 V2).bind fun V3 =>
    cnt (x6 + 1, V3)
  else
    xit (j_X16_storeAll_274 x1 x2 x3 x4 x5 V)
def l_X16_storeAll_226 (x1 x2 x3 x4 x5 x6 : Int) (V : VV) : Option ((Int × VV) ⊕ (VV)) := lpN (fun s : Int × VV => b_X16_storeAll_226 x1 x2 x3 x4 x5 s.1 s.2) FU (x6, V)
def j_X16_storeAll_163 (x1 x2 x3 x4 x5 : Int) (V : VV) : Option ((Int × VV) ⊕ (VV)) :=
  (f_X16_same 235 (5 * x5) 165 (5 * x2) V).bind fun v1 =>
  if w32 v1 = 0 then
    (f_X16_bodyKey 177 x3 V).bind fun V1 =>
    (f_X16_bodyByte (w32 (V1 156 74)) V1).bind fun V2 =>
    l_X16_storeAll_226 x1 x2 x3 x4 x5 0 V2
  else
    (f_X16_keep x2 177 x3 V).bind fun r1 =>
    (f_X16_stored x1 r1.1 r1.2).bind fun V3 =>
    j_X16_storeAll_319 x1 x2 x3 x4 V3
def j_X16_storeAll_157 (x1 x2 x3 x4 x5 x6 : Int) (V : VV) : Option ((Int × VV) ⊕ ((Int × VV) ⊕ (VV))) :=
  cnt (x6 + 1, V)
def b_X16_storeAll_74 (x1 x2 x3 x4 x5 x6 : Int) (V : VV) : Option ((Int × VV) ⊕ ((Int × VV) ⊕ (VV))) :=
  (l2 243 44 x1 V).bind fun v1 =>
  if w32 x6 < w32 v1 then
    (l2 244 44 x1 V).bind fun v2 =>
    (l2 178 32768 (((1024 * x2) + (64 * x6)) + v2) V).bind fun v3 =>
    if 0 < w32 v3 then
      (s2 217 16 (w32 (V 156 74)) x2 V).bind fun V1 =>
      (s2 218 16 (w32 (V1 156 74)) x6 V1).bind fun V2 =>
      (s2 219 16 (w32 (V2 156 74)) v3 V2).bind fun V3 =>
      (p2 74 ((w32 (V3 156 74)) + 1) V3).bind fun V4 =>
      j_X16_storeAll_157 x1 x2 x3 x4 x5 x6 V4
    else
      j_X16_storeAll_157 x1 x2 x3 x4 x5 x6 V
  else
    xit (j_X16_storeAll_163 x1 x2 x3 x4 x5 V)
def l_X16_storeAll_74 (x1 x2 x3 x4 x5 x6 : Int) (V : VV) : Option ((Int × VV) ⊕ (VV)) := lpN (fun s : Int × VV => b_X16_storeAll_74 x1 x2 x3 x4 x5 s.1 s.2) FU (x6, V)
def b_X16_storeAll_48 (x1 x2 x3 x4 : Int) (V : VV) : Option ((Int × VV) ⊕ (VV)) :=
  if w32 x4 < w32 (w32 (V 156 106)) then
    (l2 240 21 x4 V).bind fun v1 =>
    (p2 74 0 V).bind fun V1 =>
    l_X16_storeAll_74 x1 x2 x3 x4 v1 0 V1
  else
    xit (some V)
def l_X16_storeAll_48 (x1 x2 x3 x4 : Int) (V : VV) : Option (VV) := lpN (fun s : Int × VV => b_X16_storeAll_48 x1 x2 x3 s.1 s.2) FU (x4, V)
def f_X16_storeAll (x1 : Int) (V : VV) : Option (VV) :=
  (l2 228 44 x1 V).bind fun v1 =>
  (l2 244 44 x1 V).bind fun v2 =>
  (l2 231 44 x1 V).bind fun v3 =>
  (s2 231 44 x1 (v3 + 1) V).bind fun V1 =>
  (s2 230 44 x1 2 V1).bind fun V2 =>
  (s2 245 44 x1 0 V2).bind fun V3 =>
  l_X16_storeAll_48 x1 v1 (5 * ((64 * v1) + v2)) 0 V3
theorem s_X16_storeAll_319 {g : GG} {d : Nat} (hD : 6 ≤ d) {x1 x2 x3 x4 : Int} {M : MM} (hM : LM M) {V : VV} {o : AV × MM} {P : ((Int × VV) ⊕ (VV)) → Prop} (c0 : ∀ s : Int × VV, P (.inl s) → Sem g d YX16_storeAll 48 [(1, 156), (0, x1), (0, x2), (0, x3), (0, s.1), (9, 0), (9, 0), (9, 0)] [] (wr M s.2) o) (r0 : ∀ r : VV, P (.inr r) → o = ((9, 0), (wr M r))) {z : (Int × VV) ⊕ (VV)} (h : j_X16_storeAll_319 x1 x2 x3 x4 V = some z) (hz : P z) : Sem g d YX16_storeAll 319 [(1, 156), (0, x1), (0, x2), (0, x3), (0, x4), (9, 0), (9, 0), (9, 0)] [] (wr M V) o := by
  delta j_X16_storeAll_319 at h
  refine S_iinc dX16_storeAll_319 rfl rfl rfl ?_
  change Sem g d YX16_storeAll 322 [(1, 156), (0, x1), (0, x2), (0, x3), (0, x4 + 1), (9, 0), (9, 0), (9, 0)] [] (wr M V) o
  refine S_goto (tgt := 48) dX16_storeAll_322 rfl ?_
  exact c0 (x4 + 1, V) (some_P (P := fun r => P r) h hz)
theorem s_X16_storeAll_274 {g : GG} {d : Nat} (hD : 6 ≤ d) {x1 x2 x3 x4 x5 : Int} {M : MM} (hM : LM M) {V : VV} {o : AV × MM} {P : ((Int × VV) ⊕ (VV)) → Prop} (c0 : ∀ s : Int × VV, P (.inl s) → Sem g d YX16_storeAll 48 [(1, 156), (0, x1), (0, x2), (0, x3), (0, s.1), (9, 0), (9, 0), (9, 0)] [] (wr M s.2) o) (r0 : ∀ r : VV, P (.inr r) → o = ((9, 0), (wr M r))) {z : (Int × VV) ⊕ (VV)} (h : j_X16_storeAll_274 x1 x2 x3 x4 x5 V = some z) (hz : P z) : Sem g d YX16_storeAll 274 [(1, 156), (0, x1), (0, x2), (0, x3), (0, x4), (0, x5), (9, 0), (9, 0)] [] (wr M V) o := by
  delta j_X16_storeAll_274 at h
  refine S_aload_n (i := 0) dX16_storeAll_274 rfl rfl ?_
  refine S_iload_n (i := 1) dX16_storeAll_275 rfl rfl ?_
  refine S_aload_n (i := 0) dX16_storeAll_276 rfl rfl ?_
  refine P2_gfr hM (a := 236) FLX16_255 rfl ⟨rfl, rfl⟩ dX16_storeAll_277 ?_
  refine S_iload dX16_storeAll_280 rfl ?_
  refine P2_lai hM (a := 236) (n := 2860) rfl dX16_storeAll_282 h (fun v1 h => ?_)
  refine S_aload_n (i := 0) dX16_storeAll_283 rfl rfl ?_
  refine P2_gfr hM (a := 235) FLX16_252 rfl ⟨rfl, rfl⟩ dX16_storeAll_284 ?_
  refine S_iconst dX16_storeAll_287 rfl ?_
  refine S_iload dX16_storeAll_288 rfl ?_
  refine S_imul dX16_storeAll_290 ?_
  refine S_bipush (z := 7) dX16_storeAll_291 rfl ?_
  refine P2_invVe hM 0 [(0, x1), (0, v1), (1, 235), (0, 5 * x5), (0, 7)] [] CVX16_askFor MLX16_637 dX16_storeAll_293 rfl rfl rfl rfl rfl (by omega) h (fun r h => F_X16_askFor (by omega) hM h) (fun r1 h => ?_)
  refine P_if_eq (tgt := 312) dX16_storeAll_296 rfl h (fun h => ?_) (fun h => ?_)
  · refine S_aload_n (i := 0) dX16_storeAll_312 rfl rfl ?_
    refine P2_gfr hM (a := 246) FLX16_285 rfl ⟨rfl, rfl⟩ dX16_storeAll_313 ?_
    refine S_iload_n (i := 1) dX16_storeAll_316 rfl rfl ?_
    refine S_iconst dX16_storeAll_317 rfl ?_
    refine P2_saz hM (a := 246) (n := 44) rfl dX16_storeAll_318 h (fun V1 h => ?_)
    refine S_weak (ls' := [(1, 156), (0, x1), (0, x2), (0, x3), (0, x4), (9, 0), (9, 0), (9, 0)]) ⟨Or.inr rfl, ⟨Or.inr rfl, ⟨Or.inr rfl, ⟨Or.inr rfl, ⟨Or.inr rfl, ⟨Or.inl rfl, ⟨Or.inl rfl, ⟨Or.inl rfl, trivial⟩⟩⟩⟩⟩⟩⟩⟩ ?_
    exact s_X16_storeAll_319 hD hM c0 r0 h hz
  · refine S_aload_n (i := 0) dX16_storeAll_299 rfl rfl ?_
    refine P2_gfr hM (a := 245) FLX16_282 rfl ⟨rfl, rfl⟩ dX16_storeAll_300 ?_
    refine S_iload_n (i := 1) dX16_storeAll_303 rfl rfl ?_
    refine S_dup2 dX16_storeAll_304 (Nat.le_of_ble_eq_true rfl) (Nat.le_of_ble_eq_true rfl) ?_
    refine P2_lai hM (a := 245) (n := 44) rfl dX16_storeAll_305 h (fun v2 h => ?_)
    refine S_iconst dX16_storeAll_306 rfl ?_
    refine S_iadd dX16_storeAll_307 ?_
    refine P2_sai hM (a := 245) (n := 44) rfl dX16_storeAll_308 h (fun V2 h => ?_)
    refine S_goto (tgt := 319) dX16_storeAll_309 rfl ?_
    refine S_weak (ls' := [(1, 156), (0, x1), (0, x2), (0, x3), (0, x4), (9, 0), (9, 0), (9, 0)]) ⟨Or.inr rfl, ⟨Or.inr rfl, ⟨Or.inr rfl, ⟨Or.inr rfl, ⟨Or.inr rfl, ⟨Or.inl rfl, ⟨Or.inl rfl, ⟨Or.inl rfl, trivial⟩⟩⟩⟩⟩⟩⟩⟩ ?_
    exact s_X16_storeAll_319 hD hM c0 r0 h hz
theorem s_X16_storeAll_226 {g : GG} {d : Nat} (hD : 6 ≤ d) {x1 x2 x3 x4 x5 x6 : Int} {M : MM} (hM : LM M) {V : VV} {o : AV × MM} {P : ((Int × VV) ⊕ ((Int × VV) ⊕ (VV))) → Prop} (c1 : ∀ s : Int × VV, P (.inl s) → Sem g d YX16_storeAll 226 [(1, 156), (0, x1), (0, x2), (0, x3), (0, x4), (0, x5), (0, s.1), (9, 0)] [] (wr M s.2) o) (c0 : ∀ s : Int × VV, P (.inr (.inl s)) → Sem g d YX16_storeAll 48 [(1, 156), (0, x1), (0, x2), (0, x3), (0, s.1), (9, 0), (9, 0), (9, 0)] [] (wr M s.2) o) (r0 : ∀ r : VV, P (.inr (.inr r)) → o = ((9, 0), (wr M r))) {z : (Int × VV) ⊕ ((Int × VV) ⊕ (VV))} (h : b_X16_storeAll_226 x1 x2 x3 x4 x5 x6 V = some z) (hz : P z) : Sem g d YX16_storeAll 226 [(1, 156), (0, x1), (0, x2), (0, x3), (0, x4), (0, x5), (0, x6), (9, 0)] [] (wr M V) o := by
  delta b_X16_storeAll_226 at h
  refine S_iload dX16_storeAll_226 rfl ?_
  refine S_aload_n (i := 0) dX16_storeAll_228 rfl rfl ?_
  refine P2_gfi hM FLX16_565 rfl dX16_storeAll_229 ?_
  refine P_icmp_ge (tgt := 274) dX16_storeAll_232 rfl h (fun h => ?_) (fun h => ?_)
  · refine S_weak (ls' := [(1, 156), (0, x1), (0, x2), (0, x3), (0, x4), (0, x5), (9, 0), (9, 0)]) ⟨Or.inr rfl, ⟨Or.inr rfl, ⟨Or.inr rfl, ⟨Or.inr rfl, ⟨Or.inr rfl, ⟨Or.inr rfl, ⟨Or.inl rfl, ⟨Or.inl rfl, trivial⟩⟩⟩⟩⟩⟩⟩⟩ ?_
    obtain ⟨z0, h, hz⟩ := xit_some' (P := fun r => P r) h hz
    exact s_X16_storeAll_274 hD hM (P := fun r => P (.inr r)) c0 r0 h hz
  · refine S_aload_n (i := 0) dX16_storeAll_235 rfl rfl ?_
    refine S_aload_n (i := 0) dX16_storeAll_236 rfl rfl ?_
    refine P2_gfr hM (a := 217) FLX16_198 rfl ⟨rfl, rfl⟩ dX16_storeAll_237 ?_
    refine S_iload dX16_storeAll_240 rfl ?_
    refine P2_lai hM (a := 217) (n := 16) rfl dX16_storeAll_242 h (fun v1 h => ?_)
    refine P2_invVm hM [(0, v1)] [] CVX16_bodyByte MLX16_547 dX16_storeAll_243 rfl rfl rfl rfl (by omega) h (fun r h => F_X16_bodyByte (by omega) hM h) (fun V1 h => ?_)
    refine S_aload_n (i := 0) dX16_storeAll_246 rfl rfl ?_
    refine S_aload_n (i := 0) dX16_storeAll_247 rfl rfl ?_
    refine P2_gfr hM (a := 218) FLX16_201 rfl ⟨rfl, rfl⟩ dX16_storeAll_248 ?_
    refine S_iload dX16_storeAll_251 rfl ?_
    refine P2_lai hM (a := 218) (n := 16) rfl dX16_storeAll_253 h (fun v2 h => ?_)
    refine P2_invVm hM [(0, v2)] [] CVX16_bodyByte MLX16_547 dX16_storeAll_254 rfl rfl rfl rfl (by omega) h (fun r h => F_X16_bodyByte (by omega) hM h) (fun V2 h => ?_)
    refine S_aload_n (i := 0) dX16_storeAll_257 rfl rfl ?_
    refine S_aload_n (i := 0) dX16_storeAll_258 rfl rfl ?_
    refine P2_gfr hM (a := 219) FLX16_204 rfl ⟨rfl, rfl⟩ dX16_storeAll_259 ?_
    refine S_iload dX16_storeAll_262 rfl ?_
    refine P2_lai hM (a := 219) (n := 16) rfl dX16_storeAll_264 h (fun v3 h => ?_)
    refine P2_invVm hM [(0, v3)] [] CVX16_bodyByte MLX16_547 dX16_storeAll_265 rfl rfl rfl rfl (by omega) h (fun r h => F_X16_bodyByte (by omega) hM h) (fun V3 h => ?_)
    refine S_iinc dX16_storeAll_268 rfl rfl rfl ?_
    change Sem g d YX16_storeAll 271 [(1, 156), (0, x1), (0, x2), (0, x3), (0, x4), (0, x5), (0, x6 + 1), (9, 0)] [] (wr M V3) o
    refine S_goto (tgt := 226) dX16_storeAll_271 rfl ?_
    exact c1 (x6 + 1, V3) (some_P (P := fun r => P r) h hz)
theorem sl_X16_storeAll_226 {g : GG} {d : Nat} (hD : 6 ≤ d) {x1 x2 x3 x4 x5 x6 : Int} {M : MM} (hM : LM M) {V : VV} {o : AV × MM} {P : ((Int × VV) ⊕ (VV)) → Prop} (c0 : ∀ s : Int × VV, P (.inl s) → Sem g d YX16_storeAll 48 [(1, 156), (0, x1), (0, x2), (0, x3), (0, s.1), (9, 0), (9, 0), (9, 0)] [] (wr M s.2) o) (r0 : ∀ r : VV, P (.inr r) → o = ((9, 0), (wr M r))) {z : (Int × VV) ⊕ (VV)} (h : l_X16_storeAll_226 x1 x2 x3 x4 x5 x6 V = some z) (hz : P z) : Sem g d YX16_storeAll 226 [(1, 156), (0, x1), (0, x2), (0, x3), (0, x4), (0, x5), (0, x6), (9, 0)] [] (wr M V) o := by
  refine lp_sound (S := fun s : Int × VV => Sem g d YX16_storeAll 226 [(1, 156), (0, x1), (0, x2), (0, x3), (0, x4), (0, x5), (0, s.1), (9, 0)] [] (wr M s.2) o) (P := P) ?_ FU (x6, V) z h hz
  intro s x hx hP
  exact s_X16_storeAll_226 hD hM (P := Sum.elim (fun s : Int × VV => Sem g d YX16_storeAll 226 [(1, 156), (0, x1), (0, x2), (0, x3), (0, x4), (0, x5), (0, s.1), (9, 0)] [] (wr M s.2) o) P) (fun s h => h) (fun s h => c0 s h) (fun s h => r0 s h) hx hP
theorem s_X16_storeAll_163 {g : GG} {d : Nat} (hD : 6 ≤ d) {x1 x2 x3 x4 x5 : Int} {M : MM} (hM : LM M) {V : VV} {o : AV × MM} {P : ((Int × VV) ⊕ (VV)) → Prop} (c0 : ∀ s : Int × VV, P (.inl s) → Sem g d YX16_storeAll 48 [(1, 156), (0, x1), (0, x2), (0, x3), (0, s.1), (9, 0), (9, 0), (9, 0)] [] (wr M s.2) o) (r0 : ∀ r : VV, P (.inr r) → o = ((9, 0), (wr M r))) {z : (Int × VV) ⊕ (VV)} (h : j_X16_storeAll_163 x1 x2 x3 x4 x5 V = some z) (hz : P z) : Sem g d YX16_storeAll 163 [(1, 156), (0, x1), (0, x2), (0, x3), (0, x4), (0, x5), (9, 0), (9, 0)] [] (wr M V) o := by
  delta j_X16_storeAll_163 at h
  refine S_aload_n (i := 0) dX16_storeAll_163 rfl rfl ?_
  refine P2_gfr hM (a := 235) FLX16_252 rfl ⟨rfl, rfl⟩ dX16_storeAll_164 ?_
  refine S_iconst dX16_storeAll_167 rfl ?_
  refine S_iload dX16_storeAll_168 rfl ?_
  refine S_imul dX16_storeAll_170 ?_
  refine S_aload_n (i := 0) dX16_storeAll_171 rfl rfl ?_
  refine P2_gfr hM (a := 165) FLX16_36 rfl ⟨rfl, rfl⟩ dX16_storeAll_172 ?_
  refine S_iconst dX16_storeAll_175 rfl ?_
  refine S_iload_n (i := 2) dX16_storeAll_176 rfl rfl ?_
  refine S_imul dX16_storeAll_177 ?_
  refine P_invSp 0 [(1, 235), (0, 5 * x5), (1, 165), (0, 5 * x2)] [] CSX16_same MLX16_434 dX16_storeAll_178 rfl rfl rfl rfl rfl (by omega) h (fun r h => F_X16_same (by omega) hM h) (fun v1 h => ?_)
  refine P_if_eq (tgt := 206) dX16_storeAll_181 rfl h (fun h => ?_) (fun h => ?_)
  · refine S_aload_n (i := 0) dX16_storeAll_206 rfl rfl ?_
    refine S_aload_n (i := 0) dX16_storeAll_207 rfl rfl ?_
    refine P2_gfr hM (a := 177) FLX16_72 rfl ⟨rfl, rfl⟩ dX16_storeAll_208 ?_
    refine S_iload_n (i := 3) dX16_storeAll_211 rfl rfl ?_
    refine P2_invVm hM [(1, 177), (0, x3)] [] CVX16_bodyKey MLX16_634 dX16_storeAll_212 rfl rfl rfl rfl (by omega) h (fun r h => F_X16_bodyKey (by omega) hM h) (fun V1 h => ?_)
    refine S_aload_n (i := 0) dX16_storeAll_215 rfl rfl ?_
    refine S_aload_n (i := 0) dX16_storeAll_216 rfl rfl ?_
    refine P2_gfi hM FLX16_565 rfl dX16_storeAll_217 ?_
    refine P2_invVm hM [(0, w32 (V1 156 74))] [] CVX16_bodyByte MLX16_547 dX16_storeAll_220 rfl rfl rfl rfl (by omega) h (fun r h => F_X16_bodyByte (by omega) hM h) (fun V2 h => ?_)
    refine S_iconst dX16_storeAll_223 rfl ?_
    refine S_istore dX16_storeAll_224 (Nat.le_of_ble_eq_true rfl) rfl rfl ?_
    change Sem g d YX16_storeAll 226 [(1, 156), (0, x1), (0, x2), (0, x3), (0, x4), (0, x5), (0, 0), (9, 0)] [] (wr M V2) o
    exact sl_X16_storeAll_226 hD hM c0 r0 h hz
  · refine S_aload_n (i := 0) dX16_storeAll_184 rfl rfl ?_
    refine S_iload_n (i := 2) dX16_storeAll_185 rfl rfl ?_
    refine S_aload_n (i := 0) dX16_storeAll_186 rfl rfl ?_
    refine P2_gfr hM (a := 177) FLX16_72 rfl ⟨rfl, rfl⟩ dX16_storeAll_187 ?_
    refine S_iload_n (i := 3) dX16_storeAll_190 rfl rfl ?_
    refine P2_invVe hM 0 [(0, x2), (1, 177), (0, x3)] [] CVX16_keep MLX16_678 dX16_storeAll_191 rfl rfl rfl rfl rfl (by omega) h (fun r h => F_X16_keep (by omega) hM h) (fun r1 h => ?_)
    refine S_istore dX16_storeAll_194 (Nat.le_of_ble_eq_true rfl) rfl rfl ?_
    change Sem g d YX16_storeAll 196 [(1, 156), (0, x1), (0, x2), (0, x3), (0, x4), (0, x5), (0, r1.1), (9, 0)] [] (wr M r1.2) o
    refine S_aload_n (i := 0) dX16_storeAll_196 rfl rfl ?_
    refine S_iload_n (i := 1) dX16_storeAll_197 rfl rfl ?_
    refine S_iload dX16_storeAll_198 rfl ?_
    refine P2_invVm hM [(0, x1), (0, r1.1)] [] CVX16_stored MLX16_682 dX16_storeAll_200 rfl rfl rfl rfl (by omega) h (fun r h => F_X16_stored (by omega) hM h) (fun V3 h => ?_)
    refine S_goto (tgt := 319) dX16_storeAll_203 rfl ?_
    refine S_weak (ls' := [(1, 156), (0, x1), (0, x2), (0, x3), (0, x4), (9, 0), (9, 0), (9, 0)]) ⟨Or.inr rfl, ⟨Or.inr rfl, ⟨Or.inr rfl, ⟨Or.inr rfl, ⟨Or.inr rfl, ⟨Or.inl rfl, ⟨Or.inl rfl, ⟨Or.inl rfl, trivial⟩⟩⟩⟩⟩⟩⟩⟩ ?_
    exact s_X16_storeAll_319 hD hM c0 r0 h hz
theorem s_X16_storeAll_157 {g : GG} {d : Nat} (hD : 6 ≤ d) {x1 x2 x3 x4 x5 x6 : Int} {M : MM} (hM : LM M) {V : VV} {o : AV × MM} {P : ((Int × VV) ⊕ ((Int × VV) ⊕ (VV))) → Prop} (c1 : ∀ s : Int × VV, P (.inl s) → Sem g d YX16_storeAll 74 [(1, 156), (0, x1), (0, x2), (0, x3), (0, x4), (0, x5), (0, s.1), (9, 0)] [] (wr M s.2) o) (c0 : ∀ s : Int × VV, P (.inr (.inl s)) → Sem g d YX16_storeAll 48 [(1, 156), (0, x1), (0, x2), (0, x3), (0, s.1), (9, 0), (9, 0), (9, 0)] [] (wr M s.2) o) (r0 : ∀ r : VV, P (.inr (.inr r)) → o = ((9, 0), (wr M r))) {z : (Int × VV) ⊕ ((Int × VV) ⊕ (VV))} (h : j_X16_storeAll_157 x1 x2 x3 x4 x5 x6 V = some z) (hz : P z) : Sem g d YX16_storeAll 157 [(1, 156), (0, x1), (0, x2), (0, x3), (0, x4), (0, x5), (0, x6), (9, 0)] [] (wr M V) o := by
  delta j_X16_storeAll_157 at h
  refine S_iinc dX16_storeAll_157 rfl rfl rfl ?_
  change Sem g d YX16_storeAll 160 [(1, 156), (0, x1), (0, x2), (0, x3), (0, x4), (0, x5), (0, x6 + 1), (9, 0)] [] (wr M V) o
  refine S_goto (tgt := 74) dX16_storeAll_160 rfl ?_
  exact c1 (x6 + 1, V) (some_P (P := fun r => P r) h hz)
theorem s_X16_storeAll_74 {g : GG} {d : Nat} (hD : 6 ≤ d) {x1 x2 x3 x4 x5 x6 : Int} {M : MM} (hM : LM M) {V : VV} {o : AV × MM} {P : ((Int × VV) ⊕ ((Int × VV) ⊕ (VV))) → Prop} (c1 : ∀ s : Int × VV, P (.inl s) → Sem g d YX16_storeAll 74 [(1, 156), (0, x1), (0, x2), (0, x3), (0, x4), (0, x5), (0, s.1), (9, 0)] [] (wr M s.2) o) (c0 : ∀ s : Int × VV, P (.inr (.inl s)) → Sem g d YX16_storeAll 48 [(1, 156), (0, x1), (0, x2), (0, x3), (0, s.1), (9, 0), (9, 0), (9, 0)] [] (wr M s.2) o) (r0 : ∀ r : VV, P (.inr (.inr r)) → o = ((9, 0), (wr M r))) {z : (Int × VV) ⊕ ((Int × VV) ⊕ (VV))} (h : b_X16_storeAll_74 x1 x2 x3 x4 x5 x6 V = some z) (hz : P z) : Sem g d YX16_storeAll 74 [(1, 156), (0, x1), (0, x2), (0, x3), (0, x4), (0, x5), (0, x6), (9, 0)] [] (wr M V) o := by
  delta b_X16_storeAll_74 at h
  refine S_iload dX16_storeAll_74 rfl ?_
  refine S_aload_n (i := 0) dX16_storeAll_76 rfl rfl ?_
  refine P2_gfr hM (a := 243) FLX16_276 rfl ⟨rfl, rfl⟩ dX16_storeAll_77 ?_
  refine S_iload_n (i := 1) dX16_storeAll_80 rfl rfl ?_
  refine P2_lai hM (a := 243) (n := 44) rfl dX16_storeAll_81 h (fun v1 h => ?_)
  refine P_icmp_ge (tgt := 163) dX16_storeAll_82 rfl h (fun h => ?_) (fun h => ?_)
  · refine S_weak (ls' := [(1, 156), (0, x1), (0, x2), (0, x3), (0, x4), (0, x5), (9, 0), (9, 0)]) ⟨Or.inr rfl, ⟨Or.inr rfl, ⟨Or.inr rfl, ⟨Or.inr rfl, ⟨Or.inr rfl, ⟨Or.inr rfl, ⟨Or.inl rfl, ⟨Or.inl rfl, trivial⟩⟩⟩⟩⟩⟩⟩⟩ ?_
    obtain ⟨z0, h, hz⟩ := xit_some' (P := fun r => P r) h hz
    exact s_X16_storeAll_163 hD hM (P := fun r => P (.inr r)) c0 r0 h hz
  · refine S_aload_n (i := 0) dX16_storeAll_85 rfl rfl ?_
    refine P2_gfr hM (a := 178) FLX16_76 rfl ⟨rfl, rfl⟩ dX16_storeAll_86 ?_
    refine S_sipush (z := 1024) dX16_storeAll_89 rfl ?_
    refine S_iload_n (i := 2) dX16_storeAll_92 rfl rfl ?_
    refine S_imul dX16_storeAll_93 ?_
    refine S_bipush (z := 64) dX16_storeAll_94 rfl ?_
    refine S_iload dX16_storeAll_96 rfl ?_
    refine S_imul dX16_storeAll_98 ?_
    refine S_iadd dX16_storeAll_99 ?_
    refine S_aload_n (i := 0) dX16_storeAll_100 rfl rfl ?_
    refine P2_gfr hM (a := 244) FLX16_279 rfl ⟨rfl, rfl⟩ dX16_storeAll_101 ?_
    refine S_iload_n (i := 1) dX16_storeAll_104 rfl rfl ?_
    refine P2_lai hM (a := 244) (n := 44) rfl dX16_storeAll_105 h (fun v2 h => ?_)
    refine S_iadd dX16_storeAll_106 ?_
    refine P2_lai hM (a := 178) (n := 32768) rfl dX16_storeAll_107 h (fun v3 h => ?_)
    refine S_istore dX16_storeAll_108 (Nat.le_of_ble_eq_true rfl) rfl rfl ?_
    change Sem g d YX16_storeAll 110 [(1, 156), (0, x1), (0, x2), (0, x3), (0, x4), (0, x5), (0, x6), (0, v3)] [] (wr M V) o
    refine S_iload dX16_storeAll_110 rfl ?_
    refine P_if_le (tgt := 157) dX16_storeAll_112 rfl h (fun h => ?_) (fun h => ?_)
    · refine S_weak (ls' := [(1, 156), (0, x1), (0, x2), (0, x3), (0, x4), (0, x5), (0, x6), (9, 0)]) ⟨Or.inr rfl, ⟨Or.inr rfl, ⟨Or.inr rfl, ⟨Or.inr rfl, ⟨Or.inr rfl, ⟨Or.inr rfl, ⟨Or.inr rfl, ⟨Or.inl rfl, trivial⟩⟩⟩⟩⟩⟩⟩⟩ ?_
      exact s_X16_storeAll_157 hD hM c1 c0 r0 h hz
    · refine S_aload_n (i := 0) dX16_storeAll_115 rfl rfl ?_
      refine P2_gfr hM (a := 217) FLX16_198 rfl ⟨rfl, rfl⟩ dX16_storeAll_116 ?_
      refine S_aload_n (i := 0) dX16_storeAll_119 rfl rfl ?_
      refine P2_gfi hM FLX16_565 rfl dX16_storeAll_120 ?_
      refine S_iload_n (i := 2) dX16_storeAll_123 rfl rfl ?_
      refine P2_sai hM (a := 217) (n := 16) rfl dX16_storeAll_124 h (fun V1 h => ?_)
      refine S_aload_n (i := 0) dX16_storeAll_125 rfl rfl ?_
      refine P2_gfr hM (a := 218) FLX16_201 rfl ⟨rfl, rfl⟩ dX16_storeAll_126 ?_
      refine S_aload_n (i := 0) dX16_storeAll_129 rfl rfl ?_
      refine P2_gfi hM FLX16_565 rfl dX16_storeAll_130 ?_
      refine S_iload dX16_storeAll_133 rfl ?_
      refine P2_sai hM (a := 218) (n := 16) rfl dX16_storeAll_135 h (fun V2 h => ?_)
      refine S_aload_n (i := 0) dX16_storeAll_136 rfl rfl ?_
      refine P2_gfr hM (a := 219) FLX16_204 rfl ⟨rfl, rfl⟩ dX16_storeAll_137 ?_
      refine S_aload_n (i := 0) dX16_storeAll_140 rfl rfl ?_
      refine P2_gfi hM FLX16_565 rfl dX16_storeAll_141 ?_
      refine S_iload dX16_storeAll_144 rfl ?_
      refine P2_sai hM (a := 219) (n := 16) rfl dX16_storeAll_146 h (fun V3 h => ?_)
      refine S_aload_n (i := 0) dX16_storeAll_147 rfl rfl ?_
      refine S_dup dX16_storeAll_148 (Nat.le_of_ble_eq_true rfl) ?_
      refine P2_gfi hM FLX16_565 rfl dX16_storeAll_149 ?_
      refine S_iconst dX16_storeAll_152 rfl ?_
      refine S_iadd dX16_storeAll_153 ?_
      refine P2_pfi hM FLX16_565 FPX16_565 rfl dX16_storeAll_154 h (fun V4 h => ?_)
      refine S_weak (ls' := [(1, 156), (0, x1), (0, x2), (0, x3), (0, x4), (0, x5), (0, x6), (9, 0)]) ⟨Or.inr rfl, ⟨Or.inr rfl, ⟨Or.inr rfl, ⟨Or.inr rfl, ⟨Or.inr rfl, ⟨Or.inr rfl, ⟨Or.inr rfl, ⟨Or.inl rfl, trivial⟩⟩⟩⟩⟩⟩⟩⟩ ?_
      exact s_X16_storeAll_157 hD hM c1 c0 r0 h hz
theorem sl_X16_storeAll_74 {g : GG} {d : Nat} (hD : 6 ≤ d) {x1 x2 x3 x4 x5 x6 : Int} {M : MM} (hM : LM M) {V : VV} {o : AV × MM} {P : ((Int × VV) ⊕ (VV)) → Prop} (c0 : ∀ s : Int × VV, P (.inl s) → Sem g d YX16_storeAll 48 [(1, 156), (0, x1), (0, x2), (0, x3), (0, s.1), (9, 0), (9, 0), (9, 0)] [] (wr M s.2) o) (r0 : ∀ r : VV, P (.inr r) → o = ((9, 0), (wr M r))) {z : (Int × VV) ⊕ (VV)} (h : l_X16_storeAll_74 x1 x2 x3 x4 x5 x6 V = some z) (hz : P z) : Sem g d YX16_storeAll 74 [(1, 156), (0, x1), (0, x2), (0, x3), (0, x4), (0, x5), (0, x6), (9, 0)] [] (wr M V) o := by
  refine lp_sound (S := fun s : Int × VV => Sem g d YX16_storeAll 74 [(1, 156), (0, x1), (0, x2), (0, x3), (0, x4), (0, x5), (0, s.1), (9, 0)] [] (wr M s.2) o) (P := P) ?_ FU (x6, V) z h hz
  intro s x hx hP
  exact s_X16_storeAll_74 hD hM (P := Sum.elim (fun s : Int × VV => Sem g d YX16_storeAll 74 [(1, 156), (0, x1), (0, x2), (0, x3), (0, x4), (0, x5), (0, s.1), (9, 0)] [] (wr M s.2) o) P) (fun s h => h) (fun s h => c0 s h) (fun s h => r0 s h) hx hP
theorem s_X16_storeAll_48 {g : GG} {d : Nat} (hD : 6 ≤ d) {x1 x2 x3 x4 : Int} {M : MM} (hM : LM M) {V : VV} {o : AV × MM} {P : ((Int × VV) ⊕ (VV)) → Prop} (c0 : ∀ s : Int × VV, P (.inl s) → Sem g d YX16_storeAll 48 [(1, 156), (0, x1), (0, x2), (0, x3), (0, s.1), (9, 0), (9, 0), (9, 0)] [] (wr M s.2) o) (r0 : ∀ r : VV, P (.inr r) → o = ((9, 0), (wr M r))) {z : (Int × VV) ⊕ (VV)} (h : b_X16_storeAll_48 x1 x2 x3 x4 V = some z) (hz : P z) : Sem g d YX16_storeAll 48 [(1, 156), (0, x1), (0, x2), (0, x3), (0, x4), (9, 0), (9, 0), (9, 0)] [] (wr M V) o := by
  delta b_X16_storeAll_48 at h
  refine S_iload dX16_storeAll_48 rfl ?_
  refine S_aload_n (i := 0) dX16_storeAll_50 rfl rfl ?_
  refine P2_gfi hM FLX16_628 rfl dX16_storeAll_51 ?_
  refine P_icmp_ge (tgt := 325) dX16_storeAll_54 rfl h (fun h => ?_) (fun h => ?_)
  · obtain ⟨z0, h, hz⟩ := xit_some' (P := fun r => P r) h hz
    obtain rfl := r0 _ (some_P (P := fun r => P (.inr r)) h hz)
    exact S_return dX16_storeAll_325 rfl
  · refine S_aload_n (i := 0) dX16_storeAll_57 rfl rfl ?_
    refine P2_gfr hM (a := 240) FLX16_267 rfl ⟨rfl, rfl⟩ dX16_storeAll_58 ?_
    refine S_iload dX16_storeAll_61 rfl ?_
    refine P2_lai hM (a := 240) (n := 21) rfl dX16_storeAll_63 h (fun v1 h => ?_)
    refine S_istore dX16_storeAll_64 (Nat.le_of_ble_eq_true rfl) rfl rfl ?_
    change Sem g d YX16_storeAll 66 [(1, 156), (0, x1), (0, x2), (0, x3), (0, x4), (0, v1), (9, 0), (9, 0)] [] (wr M V) o
    refine S_aload_n (i := 0) dX16_storeAll_66 rfl rfl ?_
    refine S_iconst dX16_storeAll_67 rfl ?_
    refine P2_pfi hM FLX16_565 FPX16_565 rfl dX16_storeAll_68 h (fun V1 h => ?_)
    refine S_iconst dX16_storeAll_71 rfl ?_
    refine S_istore dX16_storeAll_72 (Nat.le_of_ble_eq_true rfl) rfl rfl ?_
    change Sem g d YX16_storeAll 74 [(1, 156), (0, x1), (0, x2), (0, x3), (0, x4), (0, v1), (0, 0), (9, 0)] [] (wr M V1) o
    exact sl_X16_storeAll_74 hD hM c0 r0 h hz
theorem sl_X16_storeAll_48 {g : GG} {d : Nat} (hD : 6 ≤ d) {x1 x2 x3 x4 : Int} {M : MM} (hM : LM M) {V : VV} {o : AV × MM} {P : (VV) → Prop} (r0 : ∀ r : VV, P r → o = ((9, 0), (wr M r))) {z : VV} (h : l_X16_storeAll_48 x1 x2 x3 x4 V = some z) (hz : P z) : Sem g d YX16_storeAll 48 [(1, 156), (0, x1), (0, x2), (0, x3), (0, x4), (9, 0), (9, 0), (9, 0)] [] (wr M V) o := by
  refine lp_sound (S := fun s : Int × VV => Sem g d YX16_storeAll 48 [(1, 156), (0, x1), (0, x2), (0, x3), (0, s.1), (9, 0), (9, 0), (9, 0)] [] (wr M s.2) o) (P := P) ?_ FU (x4, V) z h hz
  intro s x hx hP
  exact s_X16_storeAll_48 hD hM (P := Sum.elim (fun s : Int × VV => Sem g d YX16_storeAll 48 [(1, 156), (0, x1), (0, x2), (0, x3), (0, s.1), (9, 0), (9, 0), (9, 0)] [] (wr M s.2) o) P) (fun s h => h) (fun s h => r0 s h) hx hP
theorem s_X16_storeAll_0 {g : GG} {d : Nat} (hD : 6 ≤ d) {x1 : Int} {M : MM} (hM : LM M) {V : VV} {o : AV × MM} {P : (VV) → Prop} (r0 : ∀ r : VV, P r → o = ((9, 0), (wr M r))) {z : VV} (h : f_X16_storeAll x1 V = some z) (hz : P z) : Sem g d YX16_storeAll 0 [(1, 156), (0, x1), (9, 0), (9, 0), (9, 0), (9, 0), (9, 0), (9, 0)] [] (wr M V) o := by
  delta f_X16_storeAll at h
  refine S_aload_n (i := 0) dX16_storeAll_0 rfl rfl ?_
  refine P2_gfr hM (a := 228) FLX16_231 rfl ⟨rfl, rfl⟩ dX16_storeAll_1 ?_
  refine S_iload_n (i := 1) dX16_storeAll_4 rfl rfl ?_
  refine P2_lai hM (a := 228) (n := 44) rfl dX16_storeAll_5 h (fun v1 h => ?_)
  refine S_istore_n (i := 2) dX16_storeAll_6 rfl (Nat.le_of_ble_eq_true rfl) rfl rfl ?_
  change Sem g d YX16_storeAll 7 [(1, 156), (0, x1), (0, v1), (9, 0), (9, 0), (9, 0), (9, 0), (9, 0)] [] (wr M V) o
  refine S_iconst dX16_storeAll_7 rfl ?_
  refine S_bipush (z := 64) dX16_storeAll_8 rfl ?_
  refine S_iload_n (i := 2) dX16_storeAll_10 rfl rfl ?_
  refine S_imul dX16_storeAll_11 ?_
  refine S_aload_n (i := 0) dX16_storeAll_12 rfl rfl ?_
  refine P2_gfr hM (a := 244) FLX16_279 rfl ⟨rfl, rfl⟩ dX16_storeAll_13 ?_
  refine S_iload_n (i := 1) dX16_storeAll_16 rfl rfl ?_
  refine P2_lai hM (a := 244) (n := 44) rfl dX16_storeAll_17 h (fun v2 h => ?_)
  refine S_iadd dX16_storeAll_18 ?_
  refine S_imul dX16_storeAll_19 ?_
  refine S_istore_n (i := 3) dX16_storeAll_20 rfl (Nat.le_of_ble_eq_true rfl) rfl rfl ?_
  change Sem g d YX16_storeAll 21 [(1, 156), (0, x1), (0, v1), (0, 5 * ((64 * v1) + v2)), (9, 0), (9, 0), (9, 0), (9, 0)] [] (wr M V) o
  refine S_aload_n (i := 0) dX16_storeAll_21 rfl rfl ?_
  refine P2_gfr hM (a := 231) FLX16_240 rfl ⟨rfl, rfl⟩ dX16_storeAll_22 ?_
  refine S_iload_n (i := 1) dX16_storeAll_25 rfl rfl ?_
  refine S_dup2 dX16_storeAll_26 (Nat.le_of_ble_eq_true rfl) (Nat.le_of_ble_eq_true rfl) ?_
  refine P2_lai hM (a := 231) (n := 44) rfl dX16_storeAll_27 h (fun v3 h => ?_)
  refine S_iconst dX16_storeAll_28 rfl ?_
  refine S_iadd dX16_storeAll_29 ?_
  refine P2_sai hM (a := 231) (n := 44) rfl dX16_storeAll_30 h (fun V1 h => ?_)
  refine S_aload_n (i := 0) dX16_storeAll_31 rfl rfl ?_
  refine P2_gfr hM (a := 230) FLX16_237 rfl ⟨rfl, rfl⟩ dX16_storeAll_32 ?_
  refine S_iload_n (i := 1) dX16_storeAll_35 rfl rfl ?_
  refine S_iconst dX16_storeAll_36 rfl ?_
  refine P2_sai hM (a := 230) (n := 44) rfl dX16_storeAll_37 h (fun V2 h => ?_)
  refine S_aload_n (i := 0) dX16_storeAll_38 rfl rfl ?_
  refine P2_gfr hM (a := 245) FLX16_282 rfl ⟨rfl, rfl⟩ dX16_storeAll_39 ?_
  refine S_iload_n (i := 1) dX16_storeAll_42 rfl rfl ?_
  refine S_iconst dX16_storeAll_43 rfl ?_
  refine P2_sai hM (a := 245) (n := 44) rfl dX16_storeAll_44 h (fun V3 h => ?_)
  refine S_iconst dX16_storeAll_45 rfl ?_
  refine S_istore dX16_storeAll_46 (Nat.le_of_ble_eq_true rfl) rfl rfl ?_
  change Sem g d YX16_storeAll 48 [(1, 156), (0, x1), (0, v1), (0, 5 * ((64 * v1) + v2)), (0, 0), (9, 0), (9, 0), (9, 0)] [] (wr M V3) o
  exact sl_X16_storeAll_48 hD hM r0 h hz
theorem F_X16_storeAll {g : GG} {d : Nat} (hD : 6 ≤ d) {x1 : Int} {M : MM} (hM : LM M) {V : VV} {r : VV} (h : f_X16_storeAll x1 V = some r) : Sem g d YX16_storeAll 0 (ini YX16_storeAll [(1, 156), (0, x1)]) [] (wr M V) ((9, 0), (wr M r)) := by
  change Sem g d YX16_storeAll 0 [(1, 156), (0, x1), (9, 0), (9, 0), (9, 0), (9, 0), (9, 0), (9, 0)] [] (wr M V) ((9, 0), (wr M r))
  exact s_X16_storeAll_0 hD hM (P := fun x => x = r) (fun q e => by rw [e]) h rfl
